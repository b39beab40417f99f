/-! printed by gen/walk.py -/
set_option maxRecDepth 100000
set_option maxHeartbeats 4000000

noncomputable def s_X11_thrown (a0 : Nat) (μ : Me) : Option (Int × Me) :=
  (gI μ 9 a0 0).bind fun v1 =>
  some (v1, μ)
theorem w_X11_thrown {Z : Zt} {fin : Int × Me} {w : Int × Me} (C : CX Z yX11_thrown cX11_thrown (some .int) 1 1) {a0 : Nat} {μ : Me} (h : s_X11_thrown a0 μ = some w) (hK : w = fin) : WL Z (QN Z (some (vI fin.1)) fin.2) μ 0 [(0, vO a0)] [] := by
  unfold s_X11_thrown at h
  refine r_aload_n C 0 dX11_thrown_0 rfl rfl ?_
  obtain ⟨v1, ev1, h⟩ := bs h
  refine r_getI C (c := 9) (r := (RX11, TX11, 38)) rfl 0 (by decide) rfl ev1 q1313 dX11_thrown_1 ?_
  cases h
  exact r_iret C hK dX11_thrown_4
theorem hdX11_thrown : zhd yX11_thrown 0 := by decide +kernel
theorem m_X11_thrown {l : Launch} {D : va_G} {b0 : Nat} (hl : l.stackTraces = false) {a0 : Nat} {μ : Me} {w : Int × Me} (h : s_X11_thrown a0 μ = some w) : MN l D b0 yX11_thrown (ws_ yX11_thrown cX11_thrown 1 (some .int)) 1 [vO a0] μ (some (vI w.1)) w.2 :=
  MN.of hl (by decide +kernel) (Nat.le_of_ble_eq_true rfl) (fun Z C _ _ => w_X11_thrown C h rfl)
noncomputable def s_X11_image_b32 (a0 : Nat)  (μ : Me) : Option (Me) :=
  (pI μ 9 a0 3 1).bind fun m3 =>
  some m3
theorem w_X11_image_b32 {Z : Zt} {fin : Me} {w : (Me)} (C : CX Z yX11_image cX11_image none 1 2) {a0 : Nat}  {μ : Me} (h : s_X11_image_b32 a0 μ = some w) (hK : (fun r : Me => r = fin) w) : WL Z (QN Z none fin) μ 32 [(0, vO a0)] [] := by
  unfold s_X11_image_b32 at h
  refine r_aload_n C 0 dX11_image_32 rfl rfl ?_
  refine r_iconst C dX11_image_33 ?_
  obtain ⟨m3, em3, h⟩ := bs h
  refine r_putI C (c := 9) (r := (RX11, TX11, 38)) rfl 3 (by decide) rfl (by decide) rfl em3 q1316 dX11_image_34 ?_
  cases h
  exact r_vret C hK dX11_image_37
noncomputable def s_X11_image_l7_st (a0 : Nat) (x1 : Int) (μ : Me) : Option ((Int × Me) ⊕ (Me)) :=
  (if w32 3606 ≤ w32 x1 then
  (s_X11_image_b32 a0 μ).map Sum.inr
  else
  (gR μ 9 a0 2).bind fun v4 =>
  (gR μ 9 a0 1).bind fun v5 =>
  (aI μ 101 v5 x1).bind fun v6 =>
  (uI μ v4 x1 v6).bind fun m7 =>
  some (.inl ((x1 + 1), m7)))
theorem w_X11_image_l7_st {Z : Zt} {fin : Me} {w : ((Int × Me) ⊕ (Me))} (C : CX Z yX11_image cX11_image none 1 2) {a0 : Nat} {x1 : Int} {μ : Me} (h : s_X11_image_l7_st a0 x1 μ = some w) (hK : (Sum.elim (fun s : Int × Me => WL Z (QN Z none fin) s.2 7 [(0, vO a0), (1, vI s.1)] []) (fun r : Me => r = fin)) w) : WL Z (QN Z none fin) μ 7 [(0, vO a0), (1, vI x1)] [] := by
  unfold s_X11_image_l7_st at h
  refine r_iload_n C 1 dX11_image_7 rfl rfl ?_
  refine r_sipush C dX11_image_8 (by decide) ?_
  refine r_icmp_ge C dX11_image_11 (tgt := 32) (by decide) (fun c2 => ?_) (fun c2 => ?_)
  · have h := it_ h c2
    obtain ⟨z, hz, ez⟩ := ms_ h; clear h; subst ez; have h := hz; clear hz
    refine r_sub [0] rfl ?_
    exact w_X11_image_b32 (fin := fin) C h hK
  · have h := ie_ h c2
    refine r_aload_n C 0 dX11_image_14 rfl rfl ?_
    obtain ⟨v4, ev4, h⟩ := bs h
    refine r_getR C (c := 9) (r := (RX11, TX11, 38)) rfl 2 (by decide) rfl ev4 q1315 dX11_image_15 ?_
    refine r_iload_n C 1 dX11_image_18 rfl rfl ?_
    refine r_aload_n C 0 dX11_image_19 rfl rfl ?_
    obtain ⟨v5, ev5, h⟩ := bs h
    refine r_getR C (c := 9) (r := (RX11, TX11, 38)) rfl 1 (by decide) rfl ev5 q1314 dX11_image_20 ?_
    refine r_iload_n C 1 dX11_image_23 rfl rfl ?_
    obtain ⟨v6, ev6, h⟩ := bs h
    refine r_iald C ev6 dX11_image_24 ?_
    obtain ⟨m7, em7, h⟩ := bs h
    refine r_iast C em7 dX11_image_25 ?_
    refine r_iinc C 1 [(1, vI (x1 + 1)), (0, vO a0)] dX11_image_26 rfl (by decide) rfl ?_
    refine r_goto C dX11_image_29 (tgt := 7) (by decide) ?_
    cases h
    refine r_sub [1, 0] rfl ?_
    exact hK
noncomputable def s_X11_image_l7 (a0 : Nat) (x1 : Int) (μ : Me) : Option (Me) :=
  whileO (fun s : Int × Me => s_X11_image_l7_st a0 s.1 s.2) (x1, μ)
theorem e_X11_image_l7 (a0 : Nat) (x1 : Int) (μ : Me) : s_X11_image_l7 a0 x1 μ = (s_X11_image_l7_st a0 x1 μ).bind fun x => x.elim (fun s : Int × Me => s_X11_image_l7 a0 s.1 s.2) some := whileO_eq _ _
theorem w_X11_image_l7 {Z : Zt} {fin : Me} {w : (Me)} (C : CX Z yX11_image cX11_image none 1 2) {a0 : Nat} {x1 : Int} {μ : Me} (h : s_X11_image_l7 a0 x1 μ = some w) (hK : (fun r : Me => r = fin) w) : WL Z (QN Z none fin) μ 7 [(0, vO a0), (1, vI x1)] [] := by
  refine whileO_walk (w := w) (fun s : Int × Me => WL Z (QN Z none fin) s.2 7 [(0, vO a0), (1, vI s.1)] []) (fun s v h2 hi hr => ?_) (x1, μ) h
  refine w_X11_image_l7_st (fin := fin) C h2 ?_
  cases v with
  | inl s2 => exact hi s2 rfl
  | inr r => have e := hr r rfl; subst e; exact hK
noncomputable def s_X11_image (a0 : Nat) (μ : Me) : Option (Me) :=
  (pI μ 9 a0 0 0).bind fun m1 =>
  s_X11_image_l7 a0 0 m1
theorem w_X11_image {Z : Zt} {fin : Me} {w : Me} (C : CX Z yX11_image cX11_image none 1 2) {a0 : Nat} {μ : Me} (h : s_X11_image a0 μ = some w) (hK : w = fin) : WL Z (QN Z none fin) μ 0 [(0, vO a0)] [] := by
  unfold s_X11_image at h
  refine r_aload_n C 0 dX11_image_0 rfl rfl ?_
  refine r_iconst C dX11_image_1 ?_
  obtain ⟨m1, em1, h⟩ := bs h
  refine r_putI C (c := 9) (r := (RX11, TX11, 38)) rfl 0 (by decide) rfl ⟨rfl, rfl⟩ rfl em1 q1313 dX11_image_2 ?_
  refine r_iconst C dX11_image_5 ?_
  refine r_istore_n C [(1, vI 0), (0, vO a0)] dX11_image_6 rfl (by decide) rfl ?_
  refine r_sub [1, 0] rfl ?_
  exact w_X11_image_l7 (fin := fin) C h hK
theorem hdX11_image : zhd yX11_image 0 := by decide +kernel
theorem m_X11_image {l : Launch} {D : va_G} {b0 : Nat} (hl : l.stackTraces = false) {a0 : Nat} {μ : Me} {w : Me} (h : s_X11_image a0 μ = some w) : MN l D b0 yX11_image (ws_ yX11_image cX11_image 2 none) 1 [vO a0] μ none w :=
  MN.of hl (by decide +kernel) (Nat.le_of_ble_eq_true rfl) (fun Z C _ _ => w_X11_image C h rfl)
noncomputable def s_X11_back_l16_st (a0 : Nat) (x1 : Int) (μ : Me) : Option ((Int × Me) ⊕ (Int × Me)) :=
  (if w32 3606 ≤ w32 x1 then
  some (.inr (1, μ))
  else
  (gR μ 9 a0 1).bind fun v5 =>
  (gR μ 9 a0 2).bind fun v6 =>
  (aI μ 101 v6 x1).bind fun v7 =>
  (uI μ v5 x1 v7).bind fun m8 =>
  some (.inl ((x1 + 1), m8)))
theorem w_X11_back_l16_st {Z : Zt} {fin : Int × Me} {w : ((Int × Me) ⊕ (Int × Me))} (C : CX Z yX11_back cX11_back (some .boolean) 1 2) {a0 : Nat} {x1 : Int} {μ : Me} (h : s_X11_back_l16_st a0 x1 μ = some w) (hK : (Sum.elim (fun s : Int × Me => WL Z (QN Z (some (vI fin.1)) fin.2) s.2 16 [(0, vO a0), (1, vI s.1)] []) (fun r : Int × Me => r = fin)) w) : WL Z (QN Z (some (vI fin.1)) fin.2) μ 16 [(0, vO a0), (1, vI x1)] [] := by
  unfold s_X11_back_l16_st at h
  refine r_iload_n C 1 dX11_back_16 rfl rfl ?_
  refine r_sipush C dX11_back_17 (by decide) ?_
  refine r_icmp_ge C dX11_back_20 (tgt := 41) (by decide) (fun c4 => ?_) (fun c4 => ?_)
  · have h := it_ h c4
    refine r_iconst C dX11_back_41 ?_
    cases h
    exact r_zret C (Or.inr rfl) hK dX11_back_42
  · have h := ie_ h c4
    refine r_aload_n C 0 dX11_back_23 rfl rfl ?_
    obtain ⟨v5, ev5, h⟩ := bs h
    refine r_getR C (c := 9) (r := (RX11, TX11, 38)) rfl 1 (by decide) rfl ev5 q1314 dX11_back_24 ?_
    refine r_iload_n C 1 dX11_back_27 rfl rfl ?_
    refine r_aload_n C 0 dX11_back_28 rfl rfl ?_
    obtain ⟨v6, ev6, h⟩ := bs h
    refine r_getR C (c := 9) (r := (RX11, TX11, 38)) rfl 2 (by decide) rfl ev6 q1315 dX11_back_29 ?_
    refine r_iload_n C 1 dX11_back_32 rfl rfl ?_
    obtain ⟨v7, ev7, h⟩ := bs h
    refine r_iald C ev7 dX11_back_33 ?_
    obtain ⟨m8, em8, h⟩ := bs h
    refine r_iast C em8 dX11_back_34 ?_
    refine r_iinc C 1 [(1, vI (x1 + 1)), (0, vO a0)] dX11_back_35 rfl (by decide) rfl ?_
    refine r_goto C dX11_back_38 (tgt := 16) (by decide) ?_
    cases h
    refine r_sub [1, 0] rfl ?_
    exact hK
noncomputable def s_X11_back_l16 (a0 : Nat) (x1 : Int) (μ : Me) : Option (Int × Me) :=
  whileO (fun s : Int × Me => s_X11_back_l16_st a0 s.1 s.2) (x1, μ)
theorem e_X11_back_l16 (a0 : Nat) (x1 : Int) (μ : Me) : s_X11_back_l16 a0 x1 μ = (s_X11_back_l16_st a0 x1 μ).bind fun x => x.elim (fun s : Int × Me => s_X11_back_l16 a0 s.1 s.2) some := whileO_eq _ _
theorem w_X11_back_l16 {Z : Zt} {fin : Int × Me} {w : (Int × Me)} (C : CX Z yX11_back cX11_back (some .boolean) 1 2) {a0 : Nat} {x1 : Int} {μ : Me} (h : s_X11_back_l16 a0 x1 μ = some w) (hK : (fun r : Int × Me => r = fin) w) : WL Z (QN Z (some (vI fin.1)) fin.2) μ 16 [(0, vO a0), (1, vI x1)] [] := by
  refine whileO_walk (w := w) (fun s : Int × Me => WL Z (QN Z (some (vI fin.1)) fin.2) s.2 16 [(0, vO a0), (1, vI s.1)] []) (fun s v h2 hi hr => ?_) (x1, μ) h
  refine w_X11_back_l16_st (fin := fin) C h2 ?_
  cases v with
  | inl s2 => exact hi s2 rfl
  | inr r => have e := hr r rfl; subst e; exact hK
noncomputable def s_X11_back (a0 : Nat) (μ : Me) : Option (Int × Me) :=
  (pI μ 9 a0 0 0).bind fun m1 =>
  (gI m1 9 a0 3).bind fun v2 =>
  (if w32 v2 = 0 then
  some (0, m1)
  else
  s_X11_back_l16 a0 0 m1)
theorem w_X11_back {Z : Zt} {fin : Int × Me} {w : Int × Me} (C : CX Z yX11_back cX11_back (some .boolean) 1 2) {a0 : Nat} {μ : Me} (h : s_X11_back a0 μ = some w) (hK : w = fin) : WL Z (QN Z (some (vI fin.1)) fin.2) μ 0 [(0, vO a0)] [] := by
  unfold s_X11_back at h
  refine r_aload_n C 0 dX11_back_0 rfl rfl ?_
  refine r_iconst C dX11_back_1 ?_
  obtain ⟨m1, em1, h⟩ := bs h
  refine r_putI C (c := 9) (r := (RX11, TX11, 38)) rfl 0 (by decide) rfl ⟨rfl, rfl⟩ rfl em1 q1313 dX11_back_2 ?_
  refine r_aload_n C 0 dX11_back_5 rfl rfl ?_
  obtain ⟨v2, ev2, h⟩ := bs h
  refine r_getI C (c := 9) (r := (RX11, TX11, 38)) rfl 3 (by decide) rfl ev2 q1316 dX11_back_6 ?_
  refine r_if_ne C dX11_back_9 (tgt := 14) (by decide) (fun c3 => ?_) (fun c3 => ?_)
  · have h := ie_ h c3
    refine r_iconst C dX11_back_14 ?_
    refine r_istore_n C [(1, vI 0), (0, vO a0)] dX11_back_15 rfl (by decide) rfl ?_
    refine r_sub [1, 0] rfl ?_
    exact w_X11_back_l16 (fin := fin) C h hK
  · have h := it_ h c3
    refine r_iconst C dX11_back_12 ?_
    cases h
    exact r_zret C (Or.inl rfl) hK dX11_back_13
theorem hdX11_back : zhd yX11_back 0 := by decide +kernel
theorem m_X11_back {l : Launch} {D : va_G} {b0 : Nat} (hl : l.stackTraces = false) {a0 : Nat} {μ : Me} {w : Int × Me} (h : s_X11_back a0 μ = some w) : MN l D b0 yX11_back (ws_ yX11_back cX11_back 2 (some .boolean)) 1 [vO a0] μ (some (vI w.1)) w.2 :=
  MN.of hl (by decide +kernel) (Nat.le_of_ble_eq_true rfl) (fun Z C _ _ => w_X11_back C h rfl)
noncomputable def s_X11_feed_b106 (a0 : Nat)  (μ : Me) : Option (Int × Me) :=
  (gI μ 9 a0 11).bind fun v15 =>
  (pI μ 9 a0 11 (v15 + 20)).bind fun m16 =>
  (gI m16 9 a0 11).bind fun v17 =>
  some (v17, m16)
theorem w_X11_feed_b106 {Z : Zt} {fin : Int × Me} {w : (Int × Me)} (C : CX Z yX11_feed cX11_feed (some .int) 1 7) {a0 : Nat}  {μ : Me} (h : s_X11_feed_b106 a0 μ = some w) (hK : (fun r : Int × Me => r = fin) w) : WL Z (QN Z (some (vI fin.1)) fin.2) μ 106 [(0, vO a0)] [] := by
  unfold s_X11_feed_b106 at h
  refine r_aload_n C 0 dX11_feed_106 rfl rfl ?_
  refine r_dup C dX11_feed_107 rfl ?_
  obtain ⟨v15, ev15, h⟩ := bs h
  refine r_getI C (c := 9) (r := (RX11, TX11, 38)) rfl 11 (by decide) rfl ev15 q1324 dX11_feed_108 ?_
  refine r_bipush C dX11_feed_111 (by decide) ?_
  refine r_iadd C dX11_feed_113 ?_
  obtain ⟨m16, em16, h⟩ := bs h
  refine r_putI C (c := 9) (r := (RX11, TX11, 38)) rfl 11 (by decide) rfl ⟨rfl, rfl⟩ rfl em16 q1324 dX11_feed_114 ?_
  refine r_aload_n C 0 dX11_feed_117 rfl rfl ?_
  obtain ⟨v17, ev17, h⟩ := bs h
  refine r_getI C (c := 9) (r := (RX11, TX11, 38)) rfl 11 (by decide) rfl ev17 q1324 dX11_feed_118 ?_
  cases h
  exact r_iret C hK dX11_feed_121
noncomputable def s_X11_feed_l60_st (a0 : Nat) (x6 : Int) (μ : Me) : Option ((Int × Me) ⊕ (Int × Me)) :=
  (if w32 20 ≤ w32 x6 then
  (s_X11_feed_b106 a0 μ).map Sum.inr
  else
  (gR μ 9 a0 10).bind fun v18 =>
  (gI μ 9 a0 11).bind fun v19 =>
  (gR μ 9 a0 18).bind fun v20 =>
  (dvI x6 4).bind fun v21 =>
  (aI μ 101 v20 v21).bind fun v22 =>
  (rmI x6 4).bind fun v23 =>
  (uB μ v18 (v19 + x6) (w8 (srI v22 (24 - (8 * v23))))).bind fun m24 =>
  some (.inl ((x6 + 1), m24)))
theorem w_X11_feed_l60_st {Z : Zt} {fin : Int × Me} {w : ((Int × Me) ⊕ (Int × Me))} (C : CX Z yX11_feed cX11_feed (some .int) 1 7) {a0 : Nat} {x6 : Int} {μ : Me} (h : s_X11_feed_l60_st a0 x6 μ = some w) (hK : (Sum.elim (fun s : Int × Me => WL Z (QN Z (some (vI fin.1)) fin.2) s.2 60 [(0, vO a0), (6, vI s.1)] []) (fun r : Int × Me => r = fin)) w) : WL Z (QN Z (some (vI fin.1)) fin.2) μ 60 [(0, vO a0), (6, vI x6)] [] := by
  unfold s_X11_feed_l60_st at h
  refine r_iload C 1 dX11_feed_60 rfl ?_
  refine r_bipush C dX11_feed_62 (by decide) ?_
  refine r_icmp_ge C dX11_feed_64 (tgt := 106) (by decide) (fun c14 => ?_) (fun c14 => ?_)
  · have h := it_ h c14
    obtain ⟨z, hz, ez⟩ := ms_ h; clear h; subst ez; have h := hz; clear hz
    refine r_sub [0] rfl ?_
    exact w_X11_feed_b106 (fin := fin) C h hK
  · have h := ie_ h c14
    refine r_aload_n C 0 dX11_feed_67 rfl rfl ?_
    obtain ⟨v18, ev18, h⟩ := bs h
    refine r_getR C (c := 9) (r := (RX11, TX11, 38)) rfl 10 (by decide) rfl ev18 q1323 dX11_feed_68 ?_
    refine r_aload_n C 0 dX11_feed_71 rfl rfl ?_
    obtain ⟨v19, ev19, h⟩ := bs h
    refine r_getI C (c := 9) (r := (RX11, TX11, 38)) rfl 11 (by decide) rfl ev19 q1324 dX11_feed_72 ?_
    refine r_iload C 1 dX11_feed_75 rfl ?_
    refine r_iadd C dX11_feed_77 ?_
    refine r_aload_n C 0 dX11_feed_78 rfl rfl ?_
    obtain ⟨v20, ev20, h⟩ := bs h
    refine r_getR C (c := 9) (r := (RX11, TX11, 38)) rfl 18 (by decide) rfl ev20 q1331 dX11_feed_79 ?_
    refine r_iload C 1 dX11_feed_82 rfl ?_
    refine r_iconst C dX11_feed_84 ?_
    obtain ⟨v21, ev21, h⟩ := bs h
    refine r_idiv C ev21 dX11_feed_85 ?_
    obtain ⟨v22, ev22, h⟩ := bs h
    refine r_iald C ev22 dX11_feed_86 ?_
    refine r_bipush C dX11_feed_87 (by decide) ?_
    refine r_bipush C dX11_feed_89 (by decide) ?_
    refine r_iload C 1 dX11_feed_91 rfl ?_
    refine r_iconst C dX11_feed_93 ?_
    obtain ⟨v23, ev23, h⟩ := bs h
    refine r_irem C ev23 dX11_feed_94 ?_
    refine r_imul C dX11_feed_95 ?_
    refine r_isub C dX11_feed_96 ?_
    refine r_ishr C dX11_feed_97 ?_
    refine r_i2b C dX11_feed_98 ?_
    obtain ⟨m24, em24, h⟩ := bs h
    refine r_bast C em24 dX11_feed_99 ?_
    refine r_iinc C 1 [(6, vI (x6 + 1)), (0, vO a0)] dX11_feed_100 rfl (by decide) rfl ?_
    refine r_goto C dX11_feed_103 (tgt := 60) (by decide) ?_
    cases h
    refine r_sub [1, 0] rfl ?_
    exact hK
noncomputable def s_X11_feed_l60 (a0 : Nat) (x6 : Int) (μ : Me) : Option (Int × Me) :=
  whileO (fun s : Int × Me => s_X11_feed_l60_st a0 s.1 s.2) (x6, μ)
theorem e_X11_feed_l60 (a0 : Nat) (x6 : Int) (μ : Me) : s_X11_feed_l60 a0 x6 μ = (s_X11_feed_l60_st a0 x6 μ).bind fun x => x.elim (fun s : Int × Me => s_X11_feed_l60 a0 s.1 s.2) some := whileO_eq _ _
theorem w_X11_feed_l60 {Z : Zt} {fin : Int × Me} {w : (Int × Me)} (C : CX Z yX11_feed cX11_feed (some .int) 1 7) {a0 : Nat} {x6 : Int} {μ : Me} (h : s_X11_feed_l60 a0 x6 μ = some w) (hK : (fun r : Int × Me => r = fin) w) : WL Z (QN Z (some (vI fin.1)) fin.2) μ 60 [(0, vO a0), (6, vI x6)] [] := by
  refine whileO_walk (w := w) (fun s : Int × Me => WL Z (QN Z (some (vI fin.1)) fin.2) s.2 60 [(0, vO a0), (6, vI s.1)] []) (fun s v h2 hi hr => ?_) (x6, μ) h
  refine w_X11_feed_l60_st (fin := fin) C h2 ?_
  cases v with
  | inl s2 => exact hi s2 rfl
  | inr r => have e := hr r rfl; subst e; exact hK
noncomputable def s_X11_feed (a0 : Nat) (x1 : Int) (x2 : Int) (x3 : Int) (x4 : Int) (x5 : Int) (μ : Me) : Option (Int × Me) :=
  (pI μ 9 a0 0 0).bind fun m1 =>
  (gI m1 9 a0 11).bind fun v2 =>
  (if w32 (v2 + 20) ≤ w32 400 then
  (gR m1 9 a0 18).bind fun v4 =>
  (uI m1 v4 0 x1).bind fun m5 =>
  (gR m5 9 a0 18).bind fun v6 =>
  (uI m5 v6 1 x2).bind fun m7 =>
  (gR m7 9 a0 18).bind fun v8 =>
  (uI m7 v8 2 x3).bind fun m9 =>
  (gR m9 9 a0 18).bind fun v10 =>
  (uI m9 v10 3 x4).bind fun m11 =>
  (gR m11 9 a0 18).bind fun v12 =>
  (uI m11 v12 4 x5).bind fun m13 =>
  s_X11_feed_l60 a0 0 m13
  else
  some ((-1), m1))
theorem w_X11_feed {Z : Zt} {fin : Int × Me} {w : Int × Me} (C : CX Z yX11_feed cX11_feed (some .int) 1 7) {a0 : Nat} {x1 : Int} {x2 : Int} {x3 : Int} {x4 : Int} {x5 : Int} {μ : Me} (h : s_X11_feed a0 x1 x2 x3 x4 x5 μ = some w) (hK : w = fin) : WL Z (QN Z (some (vI fin.1)) fin.2) μ 0 [(0, vO a0), (1, vI x1), (2, vI x2), (3, vI x3), (4, vI x4), (5, vI x5)] [] := by
  unfold s_X11_feed at h
  refine r_aload_n C 0 dX11_feed_0 rfl rfl ?_
  refine r_iconst C dX11_feed_1 ?_
  obtain ⟨m1, em1, h⟩ := bs h
  refine r_putI C (c := 9) (r := (RX11, TX11, 38)) rfl 0 (by decide) rfl ⟨rfl, rfl⟩ rfl em1 q1313 dX11_feed_2 ?_
  refine r_aload_n C 0 dX11_feed_5 rfl rfl ?_
  obtain ⟨v2, ev2, h⟩ := bs h
  refine r_getI C (c := 9) (r := (RX11, TX11, 38)) rfl 11 (by decide) rfl ev2 q1324 dX11_feed_6 ?_
  refine r_bipush C dX11_feed_9 (by decide) ?_
  refine r_iadd C dX11_feed_11 ?_
  refine r_sipush C dX11_feed_12 (by decide) ?_
  refine r_icmp_le C dX11_feed_15 (tgt := 20) (by decide) (fun c3 => ?_) (fun c3 => ?_)
  · have h := it_ h c3
    refine r_aload_n C 0 dX11_feed_20 rfl rfl ?_
    obtain ⟨v4, ev4, h⟩ := bs h
    refine r_getR C (c := 9) (r := (RX11, TX11, 38)) rfl 18 (by decide) rfl ev4 q1331 dX11_feed_21 ?_
    refine r_iconst C dX11_feed_24 ?_
    refine r_iload_n C 1 dX11_feed_25 rfl rfl ?_
    obtain ⟨m5, em5, h⟩ := bs h
    refine r_iast C em5 dX11_feed_26 ?_
    refine r_aload_n C 0 dX11_feed_27 rfl rfl ?_
    obtain ⟨v6, ev6, h⟩ := bs h
    refine r_getR C (c := 9) (r := (RX11, TX11, 38)) rfl 18 (by decide) rfl ev6 q1331 dX11_feed_28 ?_
    refine r_iconst C dX11_feed_31 ?_
    refine r_iload_n C 2 dX11_feed_32 rfl rfl ?_
    obtain ⟨m7, em7, h⟩ := bs h
    refine r_iast C em7 dX11_feed_33 ?_
    refine r_aload_n C 0 dX11_feed_34 rfl rfl ?_
    obtain ⟨v8, ev8, h⟩ := bs h
    refine r_getR C (c := 9) (r := (RX11, TX11, 38)) rfl 18 (by decide) rfl ev8 q1331 dX11_feed_35 ?_
    refine r_iconst C dX11_feed_38 ?_
    refine r_iload_n C 3 dX11_feed_39 rfl rfl ?_
    obtain ⟨m9, em9, h⟩ := bs h
    refine r_iast C em9 dX11_feed_40 ?_
    refine r_aload_n C 0 dX11_feed_41 rfl rfl ?_
    obtain ⟨v10, ev10, h⟩ := bs h
    refine r_getR C (c := 9) (r := (RX11, TX11, 38)) rfl 18 (by decide) rfl ev10 q1331 dX11_feed_42 ?_
    refine r_iconst C dX11_feed_45 ?_
    refine r_iload C 4 dX11_feed_46 rfl ?_
    obtain ⟨m11, em11, h⟩ := bs h
    refine r_iast C em11 dX11_feed_48 ?_
    refine r_aload_n C 0 dX11_feed_49 rfl rfl ?_
    obtain ⟨v12, ev12, h⟩ := bs h
    refine r_getR C (c := 9) (r := (RX11, TX11, 38)) rfl 18 (by decide) rfl ev12 q1331 dX11_feed_50 ?_
    refine r_iconst C dX11_feed_53 ?_
    refine r_iload C 5 dX11_feed_54 rfl ?_
    obtain ⟨m13, em13, h⟩ := bs h
    refine r_iast C em13 dX11_feed_56 ?_
    refine r_iconst C dX11_feed_57 ?_
    refine r_istore C [(6, vI 0), (0, vO a0), (1, vI x1), (2, vI x2), (3, vI x3), (4, vI x4), (5, vI x5)] dX11_feed_58 (by decide) rfl ?_
    refine r_sub [1, 0] rfl ?_
    exact w_X11_feed_l60 (fin := fin) C h hK
  · have h := ie_ h c3
    refine r_iconst C dX11_feed_18 ?_
    cases h
    exact r_iret C hK dX11_feed_19
theorem hdX11_feed : zhd yX11_feed 5 := by decide +kernel
theorem m_X11_feed {l : Launch} {D : va_G} {b0 : Nat} (hl : l.stackTraces = false) {a0 : Nat} {x1 : Int} {x2 : Int} {x3 : Int} {x4 : Int} {x5 : Int} {μ : Me} {w : Int × Me} (h : s_X11_feed a0 x1 x2 x3 x4 x5 μ = some w) : MN l D b0 yX11_feed (ws_ yX11_feed cX11_feed 7 (some .int)) 1 [vO a0, vI x1, vI x2, vI x3, vI x4, vI x5] μ (some (vI w.1)) w.2 :=
  MN.of hl (by decide +kernel) (Nat.le_of_ble_eq_true rfl) (fun Z C _ _ => w_X11_feed C h rfl)
noncomputable def s_X11_end (a0 : Nat) (x1 : Int) (μ : Me) : Option (Int × Me) :=
  (pI μ 9 a0 0 0).bind fun m1 =>
  (if w32 x1 < 0 then
  some (0, m1)
  else
  (gI m1 9 a0 11).bind fun v3 =>
  (if w32 x1 ≤ w32 v3 then
  (pI m1 9 a0 11 x1).bind fun m5 =>
  some (1, m5)
  else
  some (0, m1)))
theorem w_X11_end {Z : Zt} {fin : Int × Me} {w : Int × Me} (C : CX Z yX11_end cX11_end (some .boolean) 1 2) {a0 : Nat} {x1 : Int} {μ : Me} (h : s_X11_end a0 x1 μ = some w) (hK : w = fin) : WL Z (QN Z (some (vI fin.1)) fin.2) μ 0 [(0, vO a0), (1, vI x1)] [] := by
  unfold s_X11_end at h
  refine r_aload_n C 0 dX11_end_0 rfl rfl ?_
  refine r_iconst C dX11_end_1 ?_
  obtain ⟨m1, em1, h⟩ := bs h
  refine r_putI C (c := 9) (r := (RX11, TX11, 38)) rfl 0 (by decide) rfl ⟨rfl, rfl⟩ rfl em1 q1313 dX11_end_2 ?_
  refine r_iload_n C 1 dX11_end_5 rfl rfl ?_
  refine r_if_lt C dX11_end_6 (tgt := 17) (by decide) (fun c2 => ?_) (fun c2 => ?_)
  · have h := it_ h c2
    refine r_iconst C dX11_end_17 ?_
    cases h
    exact r_zret C (Or.inl rfl) hK dX11_end_18
  · have h := ie_ h c2
    refine r_iload_n C 1 dX11_end_9 rfl rfl ?_
    refine r_aload_n C 0 dX11_end_10 rfl rfl ?_
    obtain ⟨v3, ev3, h⟩ := bs h
    refine r_getI C (c := 9) (r := (RX11, TX11, 38)) rfl 11 (by decide) rfl ev3 q1324 dX11_end_11 ?_
    refine r_icmp_le C dX11_end_14 (tgt := 19) (by decide) (fun c4 => ?_) (fun c4 => ?_)
    · have h := it_ h c4
      refine r_aload_n C 0 dX11_end_19 rfl rfl ?_
      refine r_iload_n C 1 dX11_end_20 rfl rfl ?_
      obtain ⟨m5, em5, h⟩ := bs h
      refine r_putI C (c := 9) (r := (RX11, TX11, 38)) rfl 11 (by decide) rfl ⟨rfl, rfl⟩ rfl em5 q1324 dX11_end_21 ?_
      refine r_iconst C dX11_end_24 ?_
      cases h
      exact r_zret C (Or.inr rfl) hK dX11_end_25
    · have h := ie_ h c4
      refine r_iconst C dX11_end_17 ?_
      cases h
      exact r_zret C (Or.inl rfl) hK dX11_end_18
theorem hdX11_end : zhd yX11_end 1 := by decide +kernel
theorem m_X11_end {l : Launch} {D : va_G} {b0 : Nat} (hl : l.stackTraces = false) {a0 : Nat} {x1 : Int} {μ : Me} {w : Int × Me} (h : s_X11_end a0 x1 μ = some w) : MN l D b0 yX11_end (ws_ yX11_end cX11_end 2 (some .boolean)) 1 [vO a0, vI x1] μ (some (vI w.1)) w.2 :=
  MN.of hl (by decide +kernel) (Nat.le_of_ble_eq_true rfl) (fun Z C _ _ => w_X11_end C h rfl)
noncomputable def s_X11_fault (a0 : Nat) (μ : Me) : Option (Int × Me) :=
  (pI μ 9 a0 0 0).bind fun m1 =>
  (gI m1 9 a0 17).bind fun v2 =>
  some (v2, m1)
theorem w_X11_fault {Z : Zt} {fin : Int × Me} {w : Int × Me} (C : CX Z yX11_fault cX11_fault (some .int) 1 1) {a0 : Nat} {μ : Me} (h : s_X11_fault a0 μ = some w) (hK : w = fin) : WL Z (QN Z (some (vI fin.1)) fin.2) μ 0 [(0, vO a0)] [] := by
  unfold s_X11_fault at h
  refine r_aload_n C 0 dX11_fault_0 rfl rfl ?_
  refine r_iconst C dX11_fault_1 ?_
  obtain ⟨m1, em1, h⟩ := bs h
  refine r_putI C (c := 9) (r := (RX11, TX11, 38)) rfl 0 (by decide) rfl ⟨rfl, rfl⟩ rfl em1 q1313 dX11_fault_2 ?_
  refine r_aload_n C 0 dX11_fault_5 rfl rfl ?_
  obtain ⟨v2, ev2, h⟩ := bs h
  refine r_getI C (c := 9) (r := (RX11, TX11, 38)) rfl 17 (by decide) rfl ev2 q1330 dX11_fault_6 ?_
  cases h
  exact r_iret C hK dX11_fault_9
theorem hdX11_fault : zhd yX11_fault 0 := by decide +kernel
theorem m_X11_fault {l : Launch} {D : va_G} {b0 : Nat} (hl : l.stackTraces = false) {a0 : Nat} {μ : Me} {w : Int × Me} (h : s_X11_fault a0 μ = some w) : MN l D b0 yX11_fault (ws_ yX11_fault cX11_fault 1 (some .int)) 1 [vO a0] μ (some (vI w.1)) w.2 :=
  MN.of hl (by decide +kernel) (Nat.le_of_ble_eq_true rfl) (fun Z C _ _ => w_X11_fault C h rfl)
noncomputable def s_X11_uses (a0 : Nat) (μ : Me) : Option (Me) :=
  (pI μ 9 a0 0 0).bind fun m1 =>
  (gI m1 9 a0 11).bind fun v2 =>
  (pI m1 9 a0 13 v2).bind fun m3 =>
  (pI m3 9 a0 11 0).bind fun m4 =>
  (pI m4 9 a0 12 0).bind fun m5 =>
  some m5
theorem w_X11_uses {Z : Zt} {fin : Me} {w : Me} (C : CX Z yX11_uses cX11_uses none 1 1) {a0 : Nat} {μ : Me} (h : s_X11_uses a0 μ = some w) (hK : w = fin) : WL Z (QN Z none fin) μ 0 [(0, vO a0)] [] := by
  unfold s_X11_uses at h
  refine r_aload_n C 0 dX11_uses_0 rfl rfl ?_
  refine r_iconst C dX11_uses_1 ?_
  obtain ⟨m1, em1, h⟩ := bs h
  refine r_putI C (c := 9) (r := (RX11, TX11, 38)) rfl 0 (by decide) rfl ⟨rfl, rfl⟩ rfl em1 q1313 dX11_uses_2 ?_
  refine r_aload_n C 0 dX11_uses_5 rfl rfl ?_
  refine r_aload_n C 0 dX11_uses_6 rfl rfl ?_
  obtain ⟨v2, ev2, h⟩ := bs h
  refine r_getI C (c := 9) (r := (RX11, TX11, 38)) rfl 11 (by decide) rfl ev2 q1324 dX11_uses_7 ?_
  obtain ⟨m3, em3, h⟩ := bs h
  refine r_putI C (c := 9) (r := (RX11, TX11, 38)) rfl 13 (by decide) rfl ⟨rfl, rfl⟩ rfl em3 q1326 dX11_uses_10 ?_
  refine r_aload_n C 0 dX11_uses_13 rfl rfl ?_
  refine r_iconst C dX11_uses_14 ?_
  obtain ⟨m4, em4, h⟩ := bs h
  refine r_putI C (c := 9) (r := (RX11, TX11, 38)) rfl 11 (by decide) rfl ⟨rfl, rfl⟩ rfl em4 q1324 dX11_uses_15 ?_
  refine r_aload_n C 0 dX11_uses_18 rfl rfl ?_
  refine r_iconst C dX11_uses_19 ?_
  obtain ⟨m5, em5, h⟩ := bs h
  refine r_putI C (c := 9) (r := (RX11, TX11, 38)) rfl 12 (by decide) rfl ⟨rfl, rfl⟩ rfl em5 q1325 dX11_uses_20 ?_
  cases h
  exact r_vret C hK dX11_uses_23
theorem hdX11_uses : zhd yX11_uses 0 := by decide +kernel
theorem m_X11_uses {l : Launch} {D : va_G} {b0 : Nat} (hl : l.stackTraces = false) {a0 : Nat} {μ : Me} {w : Me} (h : s_X11_uses a0 μ = some w) : MN l D b0 yX11_uses (ws_ yX11_uses cX11_uses 1 none) 1 [vO a0] μ none w :=
  MN.of hl (by decide +kernel) (Nat.le_of_ble_eq_true rfl) (fun Z C _ _ => w_X11_uses C h rfl)
noncomputable def s_X11_isAt (a0 : Nat) (x1 : Int) (x2 : Int) (μ : Me) : Option (Int × Me) :=
  (gI μ 9 a0 12).bind fun v1 =>
  (gI μ 9 a0 13).bind fun v2 =>
  (if w32 v2 ≤ w32 v1 then
  some (0, μ)
  else
  (gR μ 9 a0 10).bind fun v4 =>
  (gI μ 9 a0 12).bind fun v5 =>
  (aI μ 102 v4 v5).bind fun v6 =>
  (if w32 v6 < w32 x1 then
  some (0, μ)
  else
  (gR μ 9 a0 10).bind fun v8 =>
  (gI μ 9 a0 12).bind fun v9 =>
  (aI μ 102 v8 v9).bind fun v10 =>
  (if w32 x2 < w32 v10 then
  some (0, μ)
  else
  some (1, μ))))
theorem w_X11_isAt {Z : Zt} {fin : Int × Me} {w : Int × Me} (C : CX Z yX11_isAt cX11_isAt (some .boolean) 1 3) {a0 : Nat} {x1 : Int} {x2 : Int} {μ : Me} (h : s_X11_isAt a0 x1 x2 μ = some w) (hK : w = fin) : WL Z (QN Z (some (vI fin.1)) fin.2) μ 0 [(0, vO a0), (1, vI x1), (2, vI x2)] [] := by
  unfold s_X11_isAt at h
  refine r_aload_n C 0 dX11_isAt_0 rfl rfl ?_
  obtain ⟨v1, ev1, h⟩ := bs h
  refine r_getI C (c := 9) (r := (RX11, TX11, 38)) rfl 12 (by decide) rfl ev1 q1325 dX11_isAt_1 ?_
  refine r_aload_n C 0 dX11_isAt_4 rfl rfl ?_
  obtain ⟨v2, ev2, h⟩ := bs h
  refine r_getI C (c := 9) (r := (RX11, TX11, 38)) rfl 13 (by decide) rfl ev2 q1326 dX11_isAt_5 ?_
  refine r_icmp_ge C dX11_isAt_8 (tgt := 41) (by decide) (fun c3 => ?_) (fun c3 => ?_)
  · have h := it_ h c3
    refine r_iconst C dX11_isAt_41 ?_
    cases h
    exact r_zret C (Or.inl rfl) hK dX11_isAt_42
  · have h := ie_ h c3
    refine r_aload_n C 0 dX11_isAt_11 rfl rfl ?_
    obtain ⟨v4, ev4, h⟩ := bs h
    refine r_getR C (c := 9) (r := (RX11, TX11, 38)) rfl 10 (by decide) rfl ev4 q1323 dX11_isAt_12 ?_
    refine r_aload_n C 0 dX11_isAt_15 rfl rfl ?_
    obtain ⟨v5, ev5, h⟩ := bs h
    refine r_getI C (c := 9) (r := (RX11, TX11, 38)) rfl 12 (by decide) rfl ev5 q1325 dX11_isAt_16 ?_
    obtain ⟨v6, ev6, h⟩ := bs h
    refine r_bald C ev6 dX11_isAt_19 ?_
    refine r_iload_n C 1 dX11_isAt_20 rfl rfl ?_
    refine r_icmp_lt C dX11_isAt_21 (tgt := 41) (by decide) (fun c7 => ?_) (fun c7 => ?_)
    · have h := it_ h c7
      refine r_iconst C dX11_isAt_41 ?_
      cases h
      exact r_zret C (Or.inl rfl) hK dX11_isAt_42
    · have h := ie_ h c7
      refine r_aload_n C 0 dX11_isAt_24 rfl rfl ?_
      obtain ⟨v8, ev8, h⟩ := bs h
      refine r_getR C (c := 9) (r := (RX11, TX11, 38)) rfl 10 (by decide) rfl ev8 q1323 dX11_isAt_25 ?_
      refine r_aload_n C 0 dX11_isAt_28 rfl rfl ?_
      obtain ⟨v9, ev9, h⟩ := bs h
      refine r_getI C (c := 9) (r := (RX11, TX11, 38)) rfl 12 (by decide) rfl ev9 q1325 dX11_isAt_29 ?_
      obtain ⟨v10, ev10, h⟩ := bs h
      refine r_bald C ev10 dX11_isAt_32 ?_
      refine r_iload_n C 2 dX11_isAt_33 rfl rfl ?_
      refine r_icmp_gt C dX11_isAt_34 (tgt := 41) (by decide) (fun c11 => ?_) (fun c11 => ?_)
      · have h := it_ h c11
        refine r_iconst C dX11_isAt_41 ?_
        cases h
        exact r_zret C (Or.inl rfl) hK dX11_isAt_42
      · have h := ie_ h c11
        refine r_iconst C dX11_isAt_37 ?_
        refine r_goto C dX11_isAt_38 (tgt := 42) (by decide) ?_
        cases h
        exact r_zret C (Or.inr rfl) hK dX11_isAt_42
theorem hdX11_isAt : zhd yX11_isAt 2 := by decide +kernel
theorem m_X11_isAt {l : Launch} {D : va_G} {b0 : Nat} (hl : l.stackTraces = false) {a0 : Nat} {x1 : Int} {x2 : Int} {μ : Me} {w : Int × Me} (h : s_X11_isAt a0 x1 x2 μ = some w) : MN l D b0 yX11_isAt (ws_ yX11_isAt cX11_isAt 3 (some .boolean)) 1 [vO a0, vI x1, vI x2] μ (some (vI w.1)) w.2 :=
  MN.of hl (by decide +kernel) (Nat.le_of_ble_eq_true rfl) (fun Z C _ _ => w_X11_isAt C h rfl)
noncomputable def s_X11_blanks_b24 (a0 : Nat)  (μ : Me) : Option (Me) :=
  (gI μ 9 a0 12).bind fun v4 =>
  (pI μ 9 a0 14 v4).bind fun m5 =>
  some m5
theorem w_X11_blanks_b24 {Z : Zt} {fin : Me} {w : (Me)} (C : CX Z yX11_blanks cX11_blanks none 2 1) {a0 : Nat}  {μ : Me} (h : s_X11_blanks_b24 a0 μ = some w) (hK : (fun r : Me => r = fin) w) : WL Z (QN Z none fin) μ 24 [(0, vO a0)] [] := by
  unfold s_X11_blanks_b24 at h
  refine r_aload_n C 0 dX11_blanks_24 rfl rfl ?_
  refine r_aload_n C 0 dX11_blanks_25 rfl rfl ?_
  obtain ⟨v4, ev4, h⟩ := bs h
  refine r_getI C (c := 9) (r := (RX11, TX11, 38)) rfl 12 (by decide) rfl ev4 q1325 dX11_blanks_26 ?_
  obtain ⟨m5, em5, h⟩ := bs h
  refine r_putI C (c := 9) (r := (RX11, TX11, 38)) rfl 14 (by decide) rfl ⟨rfl, rfl⟩ rfl em5 q1327 dX11_blanks_29 ?_
  cases h
  exact r_vret C hK dX11_blanks_32
noncomputable def s_X11_blanks_l0_st (a0 : Nat) (μ : Me) : Option ((Me) ⊕ (Me)) :=
  (ck μ 9 a0).bind fun _ =>
  (s_X11_isAt a0 32 32 μ).bind fun q1 =>
  (if w32 q1.1 = 0 then
  (s_X11_blanks_b24 a0 q1.2).map Sum.inr
  else
  (gI q1.2 9 a0 12).bind fun v6 =>
  (pI q1.2 9 a0 12 (v6 + 1)).bind fun m7 =>
  some (.inl m7))
theorem w_X11_blanks_l0_st {Z : Zt} {fin : Me} {w : ((Me) ⊕ (Me))} (C : CX Z yX11_blanks cX11_blanks none 2 1) {a0 : Nat} {μ : Me} (h : s_X11_blanks_l0_st a0 μ = some w) (hK : (Sum.elim (fun s : Me => WL Z (QN Z none fin) s 0 [(0, vO a0)] []) (fun r : Me => r = fin)) w) : WL Z (QN Z none fin) μ 0 [(0, vO a0)] [] := by
  unfold s_X11_blanks_l0_st at h
  refine r_aload_n C 0 dX11_blanks_0 rfl rfl ?_
  refine r_bipush C dX11_blanks_1 (by decide) ?_
  refine r_bipush C dX11_blanks_3 (by decide) ?_
  obtain ⟨u2, eu2, h⟩ := bs h
  obtain ⟨q1, eq1, h⟩ := bs h
  refine r_callV C (As := [vI 32, vI 32]) (b := a0) (rest := []) (st1 := [vI q1.1]) (v := some (vI q1.1)) (r := (RX11, TX11, 38)) (ci := 9) rfl eu2 (m_X11_isAt C.tr eq1) (lw_V q1476 q1478 qs43 q133 q1479) rfl hdX11_isAt rfl rfl (Nat.le_of_ble_eq_true rfl) ⟨by decide, by decide⟩ dX11_blanks_5 rfl ?_
  refine r_if_eq C dX11_blanks_8 (tgt := 24) (by decide) (fun c3 => ?_) (fun c3 => ?_)
  · have h := it_ h c3
    obtain ⟨z, hz, ez⟩ := ms_ h; clear h; subst ez; have h := hz; clear hz
    exact w_X11_blanks_b24 (fin := fin) C h hK
  · have h := ie_ h c3
    refine r_aload_n C 0 dX11_blanks_11 rfl rfl ?_
    refine r_dup C dX11_blanks_12 rfl ?_
    obtain ⟨v6, ev6, h⟩ := bs h
    refine r_getI C (c := 9) (r := (RX11, TX11, 38)) rfl 12 (by decide) rfl ev6 q1325 dX11_blanks_13 ?_
    refine r_iconst C dX11_blanks_16 ?_
    refine r_iadd C dX11_blanks_17 ?_
    obtain ⟨m7, em7, h⟩ := bs h
    refine r_putI C (c := 9) (r := (RX11, TX11, 38)) rfl 12 (by decide) rfl ⟨rfl, rfl⟩ rfl em7 q1325 dX11_blanks_18 ?_
    refine r_goto C dX11_blanks_21 (tgt := 0) (by decide) ?_
    cases h
    exact hK
noncomputable def s_X11_blanks_l0 (a0 : Nat) (μ : Me) : Option (Me) :=
  whileO (fun s : Me => s_X11_blanks_l0_st a0 s) μ
theorem e_X11_blanks_l0 (a0 : Nat) (μ : Me) : s_X11_blanks_l0 a0 μ = (s_X11_blanks_l0_st a0 μ).bind fun x => x.elim (fun s : Me => s_X11_blanks_l0 a0 s) some := whileO_eq _ _
theorem w_X11_blanks_l0 {Z : Zt} {fin : Me} {w : (Me)} (C : CX Z yX11_blanks cX11_blanks none 2 1) {a0 : Nat} {μ : Me} (h : s_X11_blanks_l0 a0 μ = some w) (hK : (fun r : Me => r = fin) w) : WL Z (QN Z none fin) μ 0 [(0, vO a0)] [] := by
  refine whileO_walk (w := w) (fun s : Me => WL Z (QN Z none fin) s 0 [(0, vO a0)] []) (fun s v h2 hi hr => ?_) μ h
  refine w_X11_blanks_l0_st (fin := fin) C h2 ?_
  cases v with
  | inl s2 => exact hi s2 rfl
  | inr r => have e := hr r rfl; subst e; exact hK
noncomputable def s_X11_blanks (a0 : Nat) (μ : Me) : Option (Me) :=
  s_X11_blanks_l0 a0 μ
theorem w_X11_blanks {Z : Zt} {fin : Me} {w : Me} (C : CX Z yX11_blanks cX11_blanks none 2 1) {a0 : Nat} {μ : Me} (h : s_X11_blanks a0 μ = some w) (hK : w = fin) : WL Z (QN Z none fin) μ 0 [(0, vO a0)] [] := by
  unfold s_X11_blanks at h
  exact w_X11_blanks_l0 (fin := fin) C h hK
theorem hdX11_blanks : zhd yX11_blanks 0 := by decide +kernel
theorem m_X11_blanks {l : Launch} {D : va_G} {b0 : Nat} (hl : l.stackTraces = false) {a0 : Nat} {μ : Me} {w : Me} (h : s_X11_blanks a0 μ = some w) : MN l D b0 yX11_blanks (ws_ yX11_blanks cX11_blanks 1 none) 2 [vO a0] μ none w :=
  MN.of hl (by decide +kernel) (Nat.le_of_ble_eq_true rfl) (fun Z C _ _ => w_X11_blanks C h rfl)
noncomputable def s_X11_has (a0 : Nat) (x1 : Int) (μ : Me) : Option (Int × Me) :=
  (ck μ 9 a0).bind fun _ =>
  (s_X11_blanks a0  μ).bind fun q1 =>
  (ck q1 9 a0).bind fun _ =>
  (s_X11_isAt a0 x1 x1 q1).bind fun q3 =>
  (if w32 q3.1 = 0 then
  some (0, q3.2)
  else
  (gI q3.2 9 a0 12).bind fun v6 =>
  (pI q3.2 9 a0 12 (v6 + 1)).bind fun m7 =>
  some (1, m7))
theorem w_X11_has {Z : Zt} {fin : Int × Me} {w : Int × Me} (C : CX Z yX11_has cX11_has (some .boolean) 3 2) {a0 : Nat} {x1 : Int} {μ : Me} (h : s_X11_has a0 x1 μ = some w) (hK : w = fin) : WL Z (QN Z (some (vI fin.1)) fin.2) μ 0 [(0, vO a0), (1, vI x1)] [] := by
  unfold s_X11_has at h
  refine r_aload_n C 0 dX11_has_0 rfl rfl ?_
  obtain ⟨u2, eu2, h⟩ := bs h
  obtain ⟨q1, eq1, h⟩ := bs h
  refine r_callV C (As := []) (b := a0) (rest := []) (st1 := []) (v := none) (r := (RX11, TX11, 38)) (ci := 9) rfl eu2 (m_X11_blanks C.tr eq1) (lw_V q1472 q1474 qs42 q133 q1475) rfl hdX11_blanks rfl rfl (Nat.le_of_ble_eq_true rfl) ⟨by decide, by decide⟩ dX11_has_1 rfl ?_
  refine r_aload_n C 0 dX11_has_4 rfl rfl ?_
  refine r_iload_n C 1 dX11_has_5 rfl rfl ?_
  refine r_iload_n C 1 dX11_has_6 rfl rfl ?_
  obtain ⟨u4, eu4, h⟩ := bs h
  obtain ⟨q3, eq3, h⟩ := bs h
  refine r_callV C (As := [vI x1, vI x1]) (b := a0) (rest := []) (st1 := [vI q3.1]) (v := some (vI q3.1)) (r := (RX11, TX11, 38)) (ci := 9) rfl eu4 (m_X11_isAt C.tr eq3) (lw_V q1476 q1478 qs43 q133 q1479) rfl hdX11_isAt rfl rfl (Nat.le_of_ble_eq_true rfl) ⟨by decide, by decide⟩ dX11_has_7 rfl ?_
  refine r_if_ne C dX11_has_10 (tgt := 15) (by decide) (fun c5 => ?_) (fun c5 => ?_)
  · have h := ie_ h c5
    refine r_aload_n C 0 dX11_has_15 rfl rfl ?_
    refine r_dup C dX11_has_16 rfl ?_
    obtain ⟨v6, ev6, h⟩ := bs h
    refine r_getI C (c := 9) (r := (RX11, TX11, 38)) rfl 12 (by decide) rfl ev6 q1325 dX11_has_17 ?_
    refine r_iconst C dX11_has_20 ?_
    refine r_iadd C dX11_has_21 ?_
    obtain ⟨m7, em7, h⟩ := bs h
    refine r_putI C (c := 9) (r := (RX11, TX11, 38)) rfl 12 (by decide) rfl ⟨rfl, rfl⟩ rfl em7 q1325 dX11_has_22 ?_
    refine r_iconst C dX11_has_25 ?_
    cases h
    exact r_zret C (Or.inr rfl) hK dX11_has_26
  · have h := it_ h c5
    refine r_iconst C dX11_has_13 ?_
    cases h
    exact r_zret C (Or.inl rfl) hK dX11_has_14
theorem hdX11_has : zhd yX11_has 1 := by decide +kernel
theorem m_X11_has {l : Launch} {D : va_G} {b0 : Nat} (hl : l.stackTraces = false) {a0 : Nat} {x1 : Int} {μ : Me} {w : Int × Me} (h : s_X11_has a0 x1 μ = some w) : MN l D b0 yX11_has (ws_ yX11_has cX11_has 2 (some .boolean)) 3 [vO a0, vI x1] μ (some (vI w.1)) w.2 :=
  MN.of hl (by decide +kernel) (Nat.le_of_ble_eq_true rfl) (fun Z C _ _ => w_X11_has C h rfl)
noncomputable def s_X11_deeper (a0 : Nat) (μ : Me) : Option (Int × Me) :=
  (gI μ 9 a0 15).bind fun v1 =>
  (if w32 v1 = w32 6 then
  some (0, μ)
  else
  (gI μ 9 a0 15).bind fun v3 =>
  (pI μ 9 a0 15 (v3 + 1)).bind fun m4 =>
  some (1, m4))
theorem w_X11_deeper {Z : Zt} {fin : Int × Me} {w : Int × Me} (C : CX Z yX11_deeper cX11_deeper (some .boolean) 1 1) {a0 : Nat} {μ : Me} (h : s_X11_deeper a0 μ = some w) (hK : w = fin) : WL Z (QN Z (some (vI fin.1)) fin.2) μ 0 [(0, vO a0)] [] := by
  unfold s_X11_deeper at h
  refine r_aload_n C 0 dX11_deeper_0 rfl rfl ?_
  obtain ⟨v1, ev1, h⟩ := bs h
  refine r_getI C (c := 9) (r := (RX11, TX11, 38)) rfl 15 (by decide) rfl ev1 q1328 dX11_deeper_1 ?_
  refine r_bipush C dX11_deeper_4 (by decide) ?_
  refine r_icmp_ne C dX11_deeper_6 (tgt := 11) (by decide) (fun c2 => ?_) (fun c2 => ?_)
  · have h := ie_ h c2
    refine r_aload_n C 0 dX11_deeper_11 rfl rfl ?_
    refine r_dup C dX11_deeper_12 rfl ?_
    obtain ⟨v3, ev3, h⟩ := bs h
    refine r_getI C (c := 9) (r := (RX11, TX11, 38)) rfl 15 (by decide) rfl ev3 q1328 dX11_deeper_13 ?_
    refine r_iconst C dX11_deeper_16 ?_
    refine r_iadd C dX11_deeper_17 ?_
    obtain ⟨m4, em4, h⟩ := bs h
    refine r_putI C (c := 9) (r := (RX11, TX11, 38)) rfl 15 (by decide) rfl ⟨rfl, rfl⟩ rfl em4 q1328 dX11_deeper_18 ?_
    refine r_iconst C dX11_deeper_21 ?_
    cases h
    exact r_zret C (Or.inr rfl) hK dX11_deeper_22
  · have h := it_ h c2
    refine r_iconst C dX11_deeper_9 ?_
    cases h
    exact r_zret C (Or.inl rfl) hK dX11_deeper_10
theorem hdX11_deeper : zhd yX11_deeper 0 := by decide +kernel
theorem m_X11_deeper {l : Launch} {D : va_G} {b0 : Nat} (hl : l.stackTraces = false) {a0 : Nat} {μ : Me} {w : Int × Me} (h : s_X11_deeper a0 μ = some w) : MN l D b0 yX11_deeper (ws_ yX11_deeper cX11_deeper 1 (some .boolean)) 1 [vO a0] μ (some (vI w.1)) w.2 :=
  MN.of hl (by decide +kernel) (Nat.le_of_ble_eq_true rfl) (fun Z C _ _ => w_X11_deeper C h rfl)
noncomputable def s_X11_emits (a0 : Nat) (x1 : Int) (x2 : Int) (μ : Me) : Option (Int × Me) :=
  (gR μ 9 a0 1).bind fun v1 =>
  (gI μ 9 a0 19).bind fun v2 =>
  (uI μ v1 (3607 + (2 * v2)) x1).bind fun m3 =>
  (gR m3 9 a0 1).bind fun v4 =>
  (gI m3 9 a0 19).bind fun v5 =>
  (uI m3 v4 (3608 + (2 * v5)) x2).bind fun m6 =>
  (gI m6 9 a0 19).bind fun v7 =>
  (pI m6 9 a0 19 (v7 + 1)).bind fun m8 =>
  some (1, m8)
theorem w_X11_emits {Z : Zt} {fin : Int × Me} {w : Int × Me} (C : CX Z yX11_emits cX11_emits (some .boolean) 1 3) {a0 : Nat} {x1 : Int} {x2 : Int} {μ : Me} (h : s_X11_emits a0 x1 x2 μ = some w) (hK : w = fin) : WL Z (QN Z (some (vI fin.1)) fin.2) μ 0 [(0, vO a0), (1, vI x1), (2, vI x2)] [] := by
  unfold s_X11_emits at h
  refine r_aload_n C 0 dX11_emits_0 rfl rfl ?_
  obtain ⟨v1, ev1, h⟩ := bs h
  refine r_getR C (c := 9) (r := (RX11, TX11, 38)) rfl 1 (by decide) rfl ev1 q1314 dX11_emits_1 ?_
  refine r_sipush C dX11_emits_4 (by decide) ?_
  refine r_iconst C dX11_emits_7 ?_
  refine r_aload_n C 0 dX11_emits_8 rfl rfl ?_
  obtain ⟨v2, ev2, h⟩ := bs h
  refine r_getI C (c := 9) (r := (RX11, TX11, 38)) rfl 19 (by decide) rfl ev2 q1332 dX11_emits_9 ?_
  refine r_imul C dX11_emits_12 ?_
  refine r_iadd C dX11_emits_13 ?_
  refine r_iload_n C 1 dX11_emits_14 rfl rfl ?_
  obtain ⟨m3, em3, h⟩ := bs h
  refine r_iast C em3 dX11_emits_15 ?_
  refine r_aload_n C 0 dX11_emits_16 rfl rfl ?_
  obtain ⟨v4, ev4, h⟩ := bs h
  refine r_getR C (c := 9) (r := (RX11, TX11, 38)) rfl 1 (by decide) rfl ev4 q1314 dX11_emits_17 ?_
  refine r_sipush C dX11_emits_20 (by decide) ?_
  refine r_iconst C dX11_emits_23 ?_
  refine r_aload_n C 0 dX11_emits_24 rfl rfl ?_
  obtain ⟨v5, ev5, h⟩ := bs h
  refine r_getI C (c := 9) (r := (RX11, TX11, 38)) rfl 19 (by decide) rfl ev5 q1332 dX11_emits_25 ?_
  refine r_imul C dX11_emits_28 ?_
  refine r_iadd C dX11_emits_29 ?_
  refine r_iload_n C 2 dX11_emits_30 rfl rfl ?_
  obtain ⟨m6, em6, h⟩ := bs h
  refine r_iast C em6 dX11_emits_31 ?_
  refine r_aload_n C 0 dX11_emits_32 rfl rfl ?_
  refine r_dup C dX11_emits_33 rfl ?_
  obtain ⟨v7, ev7, h⟩ := bs h
  refine r_getI C (c := 9) (r := (RX11, TX11, 38)) rfl 19 (by decide) rfl ev7 q1332 dX11_emits_34 ?_
  refine r_iconst C dX11_emits_37 ?_
  refine r_iadd C dX11_emits_38 ?_
  obtain ⟨m8, em8, h⟩ := bs h
  refine r_putI C (c := 9) (r := (RX11, TX11, 38)) rfl 19 (by decide) rfl ⟨rfl, rfl⟩ rfl em8 q1332 dX11_emits_39 ?_
  refine r_iconst C dX11_emits_42 ?_
  cases h
  exact r_zret C (Or.inr rfl) hK dX11_emits_43
theorem hdX11_emits : zhd yX11_emits 2 := by decide +kernel
theorem m_X11_emits {l : Launch} {D : va_G} {b0 : Nat} (hl : l.stackTraces = false) {a0 : Nat} {x1 : Int} {x2 : Int} {μ : Me} {w : Int × Me} (h : s_X11_emits a0 x1 x2 μ = some w) : MN l D b0 yX11_emits (ws_ yX11_emits cX11_emits 3 (some .boolean)) 1 [vO a0, vI x1, vI x2] μ (some (vI w.1)) w.2 :=
  MN.of hl (by decide +kernel) (Nat.le_of_ble_eq_true rfl) (fun Z C _ _ => w_X11_emits C h rfl)
noncomputable def s_X11_number_b65 (a0 : Nat) (x1 : Int) (x2 : Int)  (μ : Me) : Option (Int × Me) :=
  (gI μ 9 a0 12).bind fun v6 =>
  (gI μ 9 a0 14).bind fun v7 =>
  (if w32 v6 = w32 v7 then
  some ((-1), μ)
  else
  (gI μ 9 a0 12).bind fun v9 =>
  (gI μ 9 a0 14).bind fun v10 =>
  (if w32 3 < w32 (v9 - v10) then
  some ((-1), μ)
  else
  (if w32 x2 ≤ w32 x1 then
  some (x2, μ)
  else
  some ((-1), μ))))
theorem w_X11_number_b65 {Z : Zt} {fin : Int × Me} {w : (Int × Me)} (C : CX Z yX11_number cX11_number (some .int) 3 3) {a0 : Nat} {x1 : Int} {x2 : Int}  {μ : Me} (h : s_X11_number_b65 a0 x1 x2 μ = some w) (hK : (fun r : Int × Me => r = fin) w) : WL Z (QN Z (some (vI fin.1)) fin.2) μ 65 [(0, vO a0), (1, vI x1), (2, vI x2)] [] := by
  unfold s_X11_number_b65 at h
  refine r_aload_n C 0 dX11_number_65 rfl rfl ?_
  obtain ⟨v6, ev6, h⟩ := bs h
  refine r_getI C (c := 9) (r := (RX11, TX11, 38)) rfl 12 (by decide) rfl ev6 q1325 dX11_number_66 ?_
  refine r_aload_n C 0 dX11_number_69 rfl rfl ?_
  obtain ⟨v7, ev7, h⟩ := bs h
  refine r_getI C (c := 9) (r := (RX11, TX11, 38)) rfl 14 (by decide) rfl ev7 q1327 dX11_number_70 ?_
  refine r_icmp_eq C dX11_number_73 (tgt := 94) (by decide) (fun c8 => ?_) (fun c8 => ?_)
  · have h := it_ h c8
    refine r_iconst C dX11_number_94 ?_
    refine r_goto C dX11_number_95 (tgt := 99) (by decide) ?_
    cases h
    exact r_iret C hK dX11_number_99
  · have h := ie_ h c8
    refine r_aload_n C 0 dX11_number_76 rfl rfl ?_
    obtain ⟨v9, ev9, h⟩ := bs h
    refine r_getI C (c := 9) (r := (RX11, TX11, 38)) rfl 12 (by decide) rfl ev9 q1325 dX11_number_77 ?_
    refine r_aload_n C 0 dX11_number_80 rfl rfl ?_
    obtain ⟨v10, ev10, h⟩ := bs h
    refine r_getI C (c := 9) (r := (RX11, TX11, 38)) rfl 14 (by decide) rfl ev10 q1327 dX11_number_81 ?_
    refine r_isub C dX11_number_84 ?_
    refine r_iconst C dX11_number_85 ?_
    refine r_icmp_gt C dX11_number_86 (tgt := 94) (by decide) (fun c11 => ?_) (fun c11 => ?_)
    · have h := it_ h c11
      refine r_iconst C dX11_number_94 ?_
      refine r_goto C dX11_number_95 (tgt := 99) (by decide) ?_
      cases h
      exact r_iret C hK dX11_number_99
    · have h := ie_ h c11
      refine r_iload_n C 2 dX11_number_89 rfl rfl ?_
      refine r_iload_n C 1 dX11_number_90 rfl rfl ?_
      refine r_icmp_le C dX11_number_91 (tgt := 98) (by decide) (fun c12 => ?_) (fun c12 => ?_)
      · have h := it_ h c12
        refine r_iload_n C 2 dX11_number_98 rfl rfl ?_
        cases h
        exact r_iret C hK dX11_number_99
      · have h := ie_ h c12
        refine r_iconst C dX11_number_94 ?_
        refine r_goto C dX11_number_95 (tgt := 99) (by decide) ?_
        cases h
        exact r_iret C hK dX11_number_99
noncomputable def s_X11_number_l6_st (a0 : Nat) (x1 : Int) (x2 : Int) (μ : Me) : Option ((Int × Me) ⊕ (Int × Me)) :=
  (ck μ 9 a0).bind fun _ =>
  (s_X11_isAt a0 48 57 μ).bind fun q3 =>
  (if w32 q3.1 = 0 then
  (s_X11_number_b65 a0 x1 x2 q3.2).map Sum.inr
  else
  (gI q3.2 9 a0 12).bind fun v13 =>
  (gI q3.2 9 a0 14).bind fun v14 =>
  (if w32 3 ≤ w32 (v13 - v14) then
  (gI q3.2 9 a0 12).bind fun v16 =>
  (pI q3.2 9 a0 12 (v16 + 1)).bind fun m17 =>
  some (.inl (x2, m17))
  else
  (gR q3.2 9 a0 10).bind fun v18 =>
  (gI q3.2 9 a0 12).bind fun v19 =>
  (aI q3.2 102 v18 v19).bind fun v20 =>
  (gI q3.2 9 a0 12).bind fun v21 =>
  (pI q3.2 9 a0 12 (v21 + 1)).bind fun m22 =>
  some (.inl ((((10 * x2) + v20) - 48), m22))))
theorem w_X11_number_l6_st {Z : Zt} {fin : Int × Me} {w : ((Int × Me) ⊕ (Int × Me))} (C : CX Z yX11_number cX11_number (some .int) 3 3) {a0 : Nat} {x1 : Int} {x2 : Int} {μ : Me} (h : s_X11_number_l6_st a0 x1 x2 μ = some w) (hK : (Sum.elim (fun s : Int × Me => WL Z (QN Z (some (vI fin.1)) fin.2) s.2 6 [(0, vO a0), (1, vI x1), (2, vI s.1)] []) (fun r : Int × Me => r = fin)) w) : WL Z (QN Z (some (vI fin.1)) fin.2) μ 6 [(0, vO a0), (1, vI x1), (2, vI x2)] [] := by
  unfold s_X11_number_l6_st at h
  refine r_aload_n C 0 dX11_number_6 rfl rfl ?_
  refine r_bipush C dX11_number_7 (by decide) ?_
  refine r_bipush C dX11_number_9 (by decide) ?_
  obtain ⟨u4, eu4, h⟩ := bs h
  obtain ⟨q3, eq3, h⟩ := bs h
  refine r_callV C (As := [vI 48, vI 57]) (b := a0) (rest := []) (st1 := [vI q3.1]) (v := some (vI q3.1)) (r := (RX11, TX11, 38)) (ci := 9) rfl eu4 (m_X11_isAt C.tr eq3) (lw_V q1476 q1478 qs43 q133 q1479) rfl hdX11_isAt rfl rfl (Nat.le_of_ble_eq_true rfl) ⟨by decide, by decide⟩ dX11_number_11 rfl ?_
  refine r_if_eq C dX11_number_14 (tgt := 65) (by decide) (fun c5 => ?_) (fun c5 => ?_)
  · have h := it_ h c5
    obtain ⟨z, hz, ez⟩ := ms_ h; clear h; subst ez; have h := hz; clear hz
    exact w_X11_number_b65 (fin := fin) C h hK
  · have h := ie_ h c5
    refine r_aload_n C 0 dX11_number_17 rfl rfl ?_
    obtain ⟨v13, ev13, h⟩ := bs h
    refine r_getI C (c := 9) (r := (RX11, TX11, 38)) rfl 12 (by decide) rfl ev13 q1325 dX11_number_18 ?_
    refine r_aload_n C 0 dX11_number_21 rfl rfl ?_
    obtain ⟨v14, ev14, h⟩ := bs h
    refine r_getI C (c := 9) (r := (RX11, TX11, 38)) rfl 14 (by decide) rfl ev14 q1327 dX11_number_22 ?_
    refine r_isub C dX11_number_25 ?_
    refine r_iconst C dX11_number_26 ?_
    refine r_icmp_ge C dX11_number_27 (tgt := 50) (by decide) (fun c15 => ?_) (fun c15 => ?_)
    · have h := it_ h c15
      refine r_iload_n C 2 dX11_number_50 rfl rfl ?_
      refine r_istore_n C [(2, vI x2), (0, vO a0), (1, vI x1)] dX11_number_51 rfl (by decide) rfl ?_
      refine r_aload_n C 1 dX11_number_52 rfl rfl ?_
      refine r_dup C dX11_number_53 rfl ?_
      obtain ⟨v16, ev16, h⟩ := bs h
      refine r_getI C (c := 9) (r := (RX11, TX11, 38)) rfl 12 (by decide) rfl ev16 q1325 dX11_number_54 ?_
      refine r_iconst C dX11_number_57 ?_
      refine r_iadd C dX11_number_58 ?_
      obtain ⟨m17, em17, h⟩ := bs h
      refine r_putI C (c := 9) (r := (RX11, TX11, 38)) rfl 12 (by decide) rfl ⟨rfl, rfl⟩ rfl em17 q1325 dX11_number_59 ?_
      refine r_goto C dX11_number_62 (tgt := 6) (by decide) ?_
      cases h
      refine r_sub [1, 2, 0] rfl ?_
      exact hK
    · have h := ie_ h c15
      refine r_bipush C dX11_number_30 (by decide) ?_
      refine r_iload_n C 2 dX11_number_32 rfl rfl ?_
      refine r_imul C dX11_number_33 ?_
      refine r_aload_n C 0 dX11_number_34 rfl rfl ?_
      obtain ⟨v18, ev18, h⟩ := bs h
      refine r_getR C (c := 9) (r := (RX11, TX11, 38)) rfl 10 (by decide) rfl ev18 q1323 dX11_number_35 ?_
      refine r_aload_n C 0 dX11_number_38 rfl rfl ?_
      obtain ⟨v19, ev19, h⟩ := bs h
      refine r_getI C (c := 9) (r := (RX11, TX11, 38)) rfl 12 (by decide) rfl ev19 q1325 dX11_number_39 ?_
      obtain ⟨v20, ev20, h⟩ := bs h
      refine r_bald C ev20 dX11_number_42 ?_
      refine r_iadd C dX11_number_43 ?_
      refine r_bipush C dX11_number_44 (by decide) ?_
      refine r_isub C dX11_number_46 ?_
      refine r_goto C dX11_number_47 (tgt := 51) (by decide) ?_
      refine r_istore_n C [(2, vI (((10 * x2) + v20) - 48)), (0, vO a0), (1, vI x1)] dX11_number_51 rfl (by decide) rfl ?_
      refine r_aload_n C 1 dX11_number_52 rfl rfl ?_
      refine r_dup C dX11_number_53 rfl ?_
      obtain ⟨v21, ev21, h⟩ := bs h
      refine r_getI C (c := 9) (r := (RX11, TX11, 38)) rfl 12 (by decide) rfl ev21 q1325 dX11_number_54 ?_
      refine r_iconst C dX11_number_57 ?_
      refine r_iadd C dX11_number_58 ?_
      obtain ⟨m22, em22, h⟩ := bs h
      refine r_putI C (c := 9) (r := (RX11, TX11, 38)) rfl 12 (by decide) rfl ⟨rfl, rfl⟩ rfl em22 q1325 dX11_number_59 ?_
      refine r_goto C dX11_number_62 (tgt := 6) (by decide) ?_
      cases h
      refine r_sub [1, 2, 0] rfl ?_
      exact hK
noncomputable def s_X11_number_l6 (a0 : Nat) (x1 : Int) (x2 : Int) (μ : Me) : Option (Int × Me) :=
  whileO (fun s : Int × Me => s_X11_number_l6_st a0 x1 s.1 s.2) (x2, μ)
theorem e_X11_number_l6 (a0 : Nat) (x1 : Int) (x2 : Int) (μ : Me) : s_X11_number_l6 a0 x1 x2 μ = (s_X11_number_l6_st a0 x1 x2 μ).bind fun x => x.elim (fun s : Int × Me => s_X11_number_l6 a0 x1 s.1 s.2) some := whileO_eq _ _
theorem w_X11_number_l6 {Z : Zt} {fin : Int × Me} {w : (Int × Me)} (C : CX Z yX11_number cX11_number (some .int) 3 3) {a0 : Nat} {x1 : Int} {x2 : Int} {μ : Me} (h : s_X11_number_l6 a0 x1 x2 μ = some w) (hK : (fun r : Int × Me => r = fin) w) : WL Z (QN Z (some (vI fin.1)) fin.2) μ 6 [(0, vO a0), (1, vI x1), (2, vI x2)] [] := by
  refine whileO_walk (w := w) (fun s : Int × Me => WL Z (QN Z (some (vI fin.1)) fin.2) s.2 6 [(0, vO a0), (1, vI x1), (2, vI s.1)] []) (fun s v h2 hi hr => ?_) (x2, μ) h
  refine w_X11_number_l6_st (fin := fin) C h2 ?_
  cases v with
  | inl s2 => exact hi s2 rfl
  | inr r => have e := hr r rfl; subst e; exact hK
noncomputable def s_X11_number (a0 : Nat) (x1 : Int) (μ : Me) : Option (Int × Me) :=
  (ck μ 9 a0).bind fun _ =>
  (s_X11_blanks a0  μ).bind fun q1 =>
  s_X11_number_l6 a0 x1 0 q1
theorem w_X11_number {Z : Zt} {fin : Int × Me} {w : Int × Me} (C : CX Z yX11_number cX11_number (some .int) 3 3) {a0 : Nat} {x1 : Int} {μ : Me} (h : s_X11_number a0 x1 μ = some w) (hK : w = fin) : WL Z (QN Z (some (vI fin.1)) fin.2) μ 0 [(0, vO a0), (1, vI x1)] [] := by
  unfold s_X11_number at h
  refine r_aload_n C 0 dX11_number_0 rfl rfl ?_
  obtain ⟨u2, eu2, h⟩ := bs h
  obtain ⟨q1, eq1, h⟩ := bs h
  refine r_callV C (As := []) (b := a0) (rest := []) (st1 := []) (v := none) (r := (RX11, TX11, 38)) (ci := 9) rfl eu2 (m_X11_blanks C.tr eq1) (lw_V q1472 q1474 qs42 q133 q1475) rfl hdX11_blanks rfl rfl (Nat.le_of_ble_eq_true rfl) ⟨by decide, by decide⟩ dX11_number_1 rfl ?_
  refine r_iconst C dX11_number_4 ?_
  refine r_istore_n C [(2, vI 0), (0, vO a0), (1, vI x1)] dX11_number_5 rfl (by decide) rfl ?_
  refine r_sub [1, 2, 0] rfl ?_
  exact w_X11_number_l6 (fin := fin) C h hK
theorem hdX11_number : zhd yX11_number 1 := by decide +kernel
theorem m_X11_number {l : Launch} {D : va_G} {b0 : Nat} (hl : l.stackTraces = false) {a0 : Nat} {x1 : Int} {μ : Me} {w : Int × Me} (h : s_X11_number a0 x1 μ = some w) : MN l D b0 yX11_number (ws_ yX11_number cX11_number 3 (some .int)) 3 [vO a0, vI x1] μ (some (vI w.1)) w.2 :=
  MN.of hl (by decide +kernel) (Nat.le_of_ble_eq_true rfl) (fun Z C _ _ => w_X11_number C h rfl)
noncomputable def s_X11_counts (a0 : Nat) (x1 : Int) (μ : Me) : Option (Int × Me) :=
  (ck μ 9 a0).bind fun _ =>
  (s_X11_blanks a0  μ).bind fun q1 =>
  (ck q1 9 a0).bind fun _ =>
  (s_X11_isAt a0 x1 x1 q1).bind fun q3 =>
  (if w32 q3.1 = 0 then
  some (0, q3.2)
  else
  (gI q3.2 9 a0 16).bind fun v6 =>
  (if w32 v6 = w32 40 then
  some (0, q3.2)
  else
  (gI q3.2 9 a0 12).bind fun v8 =>
  (pI q3.2 9 a0 12 (v8 + 1)).bind fun m9 =>
  (gI m9 9 a0 16).bind fun v10 =>
  (pI m9 9 a0 16 (v10 + 1)).bind fun m11 =>
  some (1, m11)))
theorem w_X11_counts {Z : Zt} {fin : Int × Me} {w : Int × Me} (C : CX Z yX11_counts cX11_counts (some .boolean) 3 2) {a0 : Nat} {x1 : Int} {μ : Me} (h : s_X11_counts a0 x1 μ = some w) (hK : w = fin) : WL Z (QN Z (some (vI fin.1)) fin.2) μ 0 [(0, vO a0), (1, vI x1)] [] := by
  unfold s_X11_counts at h
  refine r_aload_n C 0 dX11_counts_0 rfl rfl ?_
  obtain ⟨u2, eu2, h⟩ := bs h
  obtain ⟨q1, eq1, h⟩ := bs h
  refine r_callV C (As := []) (b := a0) (rest := []) (st1 := []) (v := none) (r := (RX11, TX11, 38)) (ci := 9) rfl eu2 (m_X11_blanks C.tr eq1) (lw_V q1472 q1474 qs42 q133 q1475) rfl hdX11_blanks rfl rfl (Nat.le_of_ble_eq_true rfl) ⟨by decide, by decide⟩ dX11_counts_1 rfl ?_
  refine r_aload_n C 0 dX11_counts_4 rfl rfl ?_
  refine r_iload_n C 1 dX11_counts_5 rfl rfl ?_
  refine r_iload_n C 1 dX11_counts_6 rfl rfl ?_
  obtain ⟨u4, eu4, h⟩ := bs h
  obtain ⟨q3, eq3, h⟩ := bs h
  refine r_callV C (As := [vI x1, vI x1]) (b := a0) (rest := []) (st1 := [vI q3.1]) (v := some (vI q3.1)) (r := (RX11, TX11, 38)) (ci := 9) rfl eu4 (m_X11_isAt C.tr eq3) (lw_V q1476 q1478 qs43 q133 q1479) rfl hdX11_isAt rfl rfl (Nat.le_of_ble_eq_true rfl) ⟨by decide, by decide⟩ dX11_counts_7 rfl ?_
  refine r_if_ne C dX11_counts_10 (tgt := 15) (by decide) (fun c5 => ?_) (fun c5 => ?_)
  · have h := ie_ h c5
    refine r_aload_n C 0 dX11_counts_15 rfl rfl ?_
    obtain ⟨v6, ev6, h⟩ := bs h
    refine r_getI C (c := 9) (r := (RX11, TX11, 38)) rfl 16 (by decide) rfl ev6 q1329 dX11_counts_16 ?_
    refine r_bipush C dX11_counts_19 (by decide) ?_
    refine r_icmp_ne C dX11_counts_21 (tgt := 26) (by decide) (fun c7 => ?_) (fun c7 => ?_)
    · have h := ie_ h c7
      refine r_aload_n C 0 dX11_counts_26 rfl rfl ?_
      refine r_dup C dX11_counts_27 rfl ?_
      obtain ⟨v8, ev8, h⟩ := bs h
      refine r_getI C (c := 9) (r := (RX11, TX11, 38)) rfl 12 (by decide) rfl ev8 q1325 dX11_counts_28 ?_
      refine r_iconst C dX11_counts_31 ?_
      refine r_iadd C dX11_counts_32 ?_
      obtain ⟨m9, em9, h⟩ := bs h
      refine r_putI C (c := 9) (r := (RX11, TX11, 38)) rfl 12 (by decide) rfl ⟨rfl, rfl⟩ rfl em9 q1325 dX11_counts_33 ?_
      refine r_aload_n C 0 dX11_counts_36 rfl rfl ?_
      refine r_dup C dX11_counts_37 rfl ?_
      obtain ⟨v10, ev10, h⟩ := bs h
      refine r_getI C (c := 9) (r := (RX11, TX11, 38)) rfl 16 (by decide) rfl ev10 q1329 dX11_counts_38 ?_
      refine r_iconst C dX11_counts_41 ?_
      refine r_iadd C dX11_counts_42 ?_
      obtain ⟨m11, em11, h⟩ := bs h
      refine r_putI C (c := 9) (r := (RX11, TX11, 38)) rfl 16 (by decide) rfl ⟨rfl, rfl⟩ rfl em11 q1329 dX11_counts_43 ?_
      refine r_iconst C dX11_counts_46 ?_
      cases h
      exact r_zret C (Or.inr rfl) hK dX11_counts_47
    · have h := it_ h c7
      refine r_iconst C dX11_counts_24 ?_
      cases h
      exact r_zret C (Or.inl rfl) hK dX11_counts_25
  · have h := it_ h c5
    refine r_iconst C dX11_counts_13 ?_
    cases h
    exact r_zret C (Or.inl rfl) hK dX11_counts_14
theorem hdX11_counts : zhd yX11_counts 1 := by decide +kernel
theorem m_X11_counts {l : Launch} {D : va_G} {b0 : Nat} (hl : l.stackTraces = false) {a0 : Nat} {x1 : Int} {μ : Me} {w : Int × Me} (h : s_X11_counts a0 x1 μ = some w) : MN l D b0 yX11_counts (ws_ yX11_counts cX11_counts 2 (some .boolean)) 3 [vO a0, vI x1] μ (some (vI w.1)) w.2 :=
  MN.of hl (by decide +kernel) (Nat.le_of_ble_eq_true rfl) (fun Z C _ _ => w_X11_counts C h rfl)
noncomputable def s_X11_throwsIf (a0 : Nat) (x1 : Int) (x2 : Int) (μ : Me) : Option (Int × Me) :=
  (if w32 x1 = 0 then
  (bz2 x1).bind fun _ =>
  some (x1, μ)
  else
  (pI μ 9 a0 0 x2).bind fun m3 =>
  (bz2 x1).bind fun _ =>
  some (x1, m3))
theorem w_X11_throwsIf {Z : Zt} {fin : Int × Me} {w : Int × Me} (C : CX Z yX11_throwsIf cX11_throwsIf (some .boolean) 1 3) {a0 : Nat} {x1 : Int} {x2 : Int} {μ : Me} (h : s_X11_throwsIf a0 x1 x2 μ = some w) (hK : w = fin) : WL Z (QN Z (some (vI fin.1)) fin.2) μ 0 [(0, vO a0), (1, vI x1), (2, vI x2)] [] := by
  unfold s_X11_throwsIf at h
  refine r_iload_n C 1 dX11_throwsIf_0 rfl rfl ?_
  refine r_if_eq C dX11_throwsIf_1 (tgt := 9) (by decide) (fun c1 => ?_) (fun c1 => ?_)
  · have h := it_ h c1
    refine r_iload_n C 1 dX11_throwsIf_9 rfl rfl ?_
    obtain ⟨u2, eu2, h⟩ := bs h
    cases h
    exact r_zret C (bz2_ok eu2) hK dX11_throwsIf_10
  · have h := ie_ h c1
    refine r_aload_n C 0 dX11_throwsIf_4 rfl rfl ?_
    refine r_iload_n C 2 dX11_throwsIf_5 rfl rfl ?_
    obtain ⟨m3, em3, h⟩ := bs h
    refine r_putI C (c := 9) (r := (RX11, TX11, 38)) rfl 0 (by decide) rfl ⟨rfl, rfl⟩ rfl em3 q1313 dX11_throwsIf_6 ?_
    refine r_iload_n C 1 dX11_throwsIf_9 rfl rfl ?_
    obtain ⟨u4, eu4, h⟩ := bs h
    cases h
    exact r_zret C (bz2_ok eu4) hK dX11_throwsIf_10
theorem hdX11_throwsIf : zhd yX11_throwsIf 2 := by decide +kernel
theorem m_X11_throwsIf {l : Launch} {D : va_G} {b0 : Nat} (hl : l.stackTraces = false) {a0 : Nat} {x1 : Int} {x2 : Int} {μ : Me} {w : Int × Me} (h : s_X11_throwsIf a0 x1 x2 μ = some w) : MN l D b0 yX11_throwsIf (ws_ yX11_throwsIf cX11_throwsIf 3 (some .boolean)) 1 [vO a0, vI x1, vI x2] μ (some (vI w.1)) w.2 :=
  MN.of hl (by decide +kernel) (Nat.le_of_ble_eq_true rfl) (fun Z C _ _ => w_X11_throwsIf C h rfl)
noncomputable def s_X11_field_b64 (a0 : Nat) (x1 : Int) (t0 : Int) (t1 : Nat) (μ : Me) : Option (Me) :=
  (ck μ 9 t1).bind fun _ =>
  (s_X11_throwsIf t1 t0 2 μ).bind fun q11 =>
  (if w32 q11.1 = 0 then
  (gR q11.2 9 a0 1).bind fun v14 =>
  (uI q11.2 v14 0 x1).bind fun m15 =>
  some m15
  else
  some q11.2)
theorem w_X11_field_b64 {Z : Zt} {fin : Me} {w : (Me)} (C : CX Z yX11_field cX11_field none 2 2) {a0 : Nat} {x1 : Int} {t0 : Int} {t1 : Nat} {μ : Me} (h : s_X11_field_b64 a0 x1 t0 t1 μ = some w) (hK : (fun r : Me => r = fin) w) : WL Z (QN Z none fin) μ 64 [(0, vO a0), (1, vI x1)] [vI t0, vO t1] := by
  unfold s_X11_field_b64 at h
  refine r_iconst C dX11_field_64 ?_
  obtain ⟨u12, eu12, h⟩ := bs h
  obtain ⟨q11, eq11, h⟩ := bs h
  refine r_callV C (As := [vI t0, vI 2]) (b := t1) (rest := []) (st1 := [vI q11.1]) (v := some (vI q11.1)) (r := (RX11, TX11, 38)) (ci := 9) rfl eu12 (m_X11_throwsIf C.tr eq11) (lw_V q1500 q1502 qs49 q133 q1503) rfl hdX11_throwsIf rfl rfl (Nat.le_of_ble_eq_true rfl) ⟨by decide, by decide⟩ dX11_field_65 rfl ?_
  refine r_if_eq C dX11_field_68 (tgt := 72) (by decide) (fun c13 => ?_) (fun c13 => ?_)
  · have h := it_ h c13
    refine r_aload_n C 0 dX11_field_72 rfl rfl ?_
    obtain ⟨v14, ev14, h⟩ := bs h
    refine r_getR C (c := 9) (r := (RX11, TX11, 38)) rfl 1 (by decide) rfl ev14 q1314 dX11_field_73 ?_
    refine r_iconst C dX11_field_76 ?_
    refine r_iload_n C 1 dX11_field_77 rfl rfl ?_
    obtain ⟨m15, em15, h⟩ := bs h
    refine r_iast C em15 dX11_field_78 ?_
    cases h
    exact r_vret C hK dX11_field_79
  · have h := ie_ h c13
    cases h
    exact r_vret C hK dX11_field_71
noncomputable def s_X11_field_b35 (a0 : Nat) (x1 : Int) (t0 : Int) (t1 : Nat) (μ : Me) : Option (Me) :=
  (ck μ 9 t1).bind fun _ =>
  (s_X11_throwsIf t1 t0 1 μ).bind fun q3 =>
  (if w32 q3.1 = 0 then
  (gR q3.2 9 a0 1).bind fun v6 =>
  (aI q3.2 101 v6 1).bind fun v7 =>
  (gR q3.2 9 a0 1).bind fun v8 =>
  (aI q3.2 101 v8 2).bind fun v9 =>
  (if w32 (v7 + v9) ≤ 0 then
  s_X11_field_b64 a0 x1 0 a0 q3.2
  else
  s_X11_field_b64 a0 x1 1 a0 q3.2)
  else
  some q3.2)
theorem w_X11_field_b35 {Z : Zt} {fin : Me} {w : (Me)} (C : CX Z yX11_field cX11_field none 2 2) {a0 : Nat} {x1 : Int} {t0 : Int} {t1 : Nat} {μ : Me} (h : s_X11_field_b35 a0 x1 t0 t1 μ = some w) (hK : (fun r : Me => r = fin) w) : WL Z (QN Z none fin) μ 35 [(0, vO a0), (1, vI x1)] [vI t0, vO t1] := by
  unfold s_X11_field_b35 at h
  refine r_iconst C dX11_field_35 ?_
  obtain ⟨u4, eu4, h⟩ := bs h
  obtain ⟨q3, eq3, h⟩ := bs h
  refine r_callV C (As := [vI t0, vI 1]) (b := t1) (rest := []) (st1 := [vI q3.1]) (v := some (vI q3.1)) (r := (RX11, TX11, 38)) (ci := 9) rfl eu4 (m_X11_throwsIf C.tr eq3) (lw_V q1500 q1502 qs49 q133 q1503) rfl hdX11_throwsIf rfl rfl (Nat.le_of_ble_eq_true rfl) ⟨by decide, by decide⟩ dX11_field_36 rfl ?_
  refine r_if_ne C dX11_field_39 (tgt := 71) (by decide) (fun c5 => ?_) (fun c5 => ?_)
  · have h := ie_ h c5
    cases h
    exact r_vret C hK dX11_field_71
  · have h := it_ h c5
    refine r_aload_n C 0 dX11_field_42 rfl rfl ?_
    refine r_aload_n C 0 dX11_field_43 rfl rfl ?_
    obtain ⟨v6, ev6, h⟩ := bs h
    refine r_getR C (c := 9) (r := (RX11, TX11, 38)) rfl 1 (by decide) rfl ev6 q1314 dX11_field_44 ?_
    refine r_iconst C dX11_field_47 ?_
    obtain ⟨v7, ev7, h⟩ := bs h
    refine r_iald C ev7 dX11_field_48 ?_
    refine r_aload_n C 0 dX11_field_49 rfl rfl ?_
    obtain ⟨v8, ev8, h⟩ := bs h
    refine r_getR C (c := 9) (r := (RX11, TX11, 38)) rfl 1 (by decide) rfl ev8 q1314 dX11_field_50 ?_
    refine r_iconst C dX11_field_53 ?_
    obtain ⟨v9, ev9, h⟩ := bs h
    refine r_iald C ev9 dX11_field_54 ?_
    refine r_iadd C dX11_field_55 ?_
    refine r_if_le C dX11_field_56 (tgt := 63) (by decide) (fun c10 => ?_) (fun c10 => ?_)
    · have h := it_ h c10
      refine r_iconst C dX11_field_63 ?_
      exact w_X11_field_b64 (fin := fin) C h hK
    · have h := ie_ h c10
      refine r_iconst C dX11_field_59 ?_
      refine r_goto C dX11_field_60 (tgt := 64) (by decide) ?_
      exact w_X11_field_b64 (fin := fin) C h hK
noncomputable def s_X11_field_b34 (a0 : Nat) (x1 : Int) (t0 : Nat) (μ : Me) : Option (Me) :=
  s_X11_field_b35 a0 x1 0 t0 μ
theorem w_X11_field_b34 {Z : Zt} {fin : Me} {w : (Me)} (C : CX Z yX11_field cX11_field none 2 2) {a0 : Nat} {x1 : Int} {t0 : Nat} {μ : Me} (h : s_X11_field_b34 a0 x1 t0 μ = some w) (hK : (fun r : Me => r = fin) w) : WL Z (QN Z none fin) μ 34 [(0, vO a0), (1, vI x1)] [vO t0] := by
  unfold s_X11_field_b34 at h
  refine r_iconst C dX11_field_34 ?_
  exact w_X11_field_b35 (fin := fin) C h hK
noncomputable def s_X11_field (a0 : Nat) (x1 : Int) (μ : Me) : Option (Me) :=
  (pI μ 9 a0 0 0).bind fun m1 =>
  (if w32 x1 = w32 11 then
  s_X11_field_b34 a0 x1 a0 m1
  else
  (if w32 x1 = w32 13 then
  s_X11_field_b34 a0 x1 a0 m1
  else
  (if w32 x1 = w32 17 then
  s_X11_field_b34 a0 x1 a0 m1
  else
  (if w32 x1 = w32 19 then
  s_X11_field_b34 a0 x1 a0 m1
  else
  s_X11_field_b35 a0 x1 1 a0 m1))))
theorem w_X11_field {Z : Zt} {fin : Me} {w : Me} (C : CX Z yX11_field cX11_field none 2 2) {a0 : Nat} {x1 : Int} {μ : Me} (h : s_X11_field a0 x1 μ = some w) (hK : w = fin) : WL Z (QN Z none fin) μ 0 [(0, vO a0), (1, vI x1)] [] := by
  unfold s_X11_field at h
  refine r_aload_n C 0 dX11_field_0 rfl rfl ?_
  refine r_iconst C dX11_field_1 ?_
  obtain ⟨m1, em1, h⟩ := bs h
  refine r_putI C (c := 9) (r := (RX11, TX11, 38)) rfl 0 (by decide) rfl ⟨rfl, rfl⟩ rfl em1 q1313 dX11_field_2 ?_
  refine r_aload_n C 0 dX11_field_5 rfl rfl ?_
  refine r_iload_n C 1 dX11_field_6 rfl rfl ?_
  refine r_bipush C dX11_field_7 (by decide) ?_
  refine r_icmp_eq C dX11_field_9 (tgt := 34) (by decide) (fun c2 => ?_) (fun c2 => ?_)
  · have h := it_ h c2
    exact w_X11_field_b34 (fin := fin) C h hK
  · have h := ie_ h c2
    refine r_iload_n C 1 dX11_field_12 rfl rfl ?_
    refine r_bipush C dX11_field_13 (by decide) ?_
    refine r_icmp_eq C dX11_field_15 (tgt := 34) (by decide) (fun c16 => ?_) (fun c16 => ?_)
    · have h := it_ h c16
      exact w_X11_field_b34 (fin := fin) C h hK
    · have h := ie_ h c16
      refine r_iload_n C 1 dX11_field_18 rfl rfl ?_
      refine r_bipush C dX11_field_19 (by decide) ?_
      refine r_icmp_eq C dX11_field_21 (tgt := 34) (by decide) (fun c17 => ?_) (fun c17 => ?_)
      · have h := it_ h c17
        exact w_X11_field_b34 (fin := fin) C h hK
      · have h := ie_ h c17
        refine r_iload_n C 1 dX11_field_24 rfl rfl ?_
        refine r_bipush C dX11_field_25 (by decide) ?_
        refine r_icmp_eq C dX11_field_27 (tgt := 34) (by decide) (fun c18 => ?_) (fun c18 => ?_)
        · have h := it_ h c18
          exact w_X11_field_b34 (fin := fin) C h hK
        · have h := ie_ h c18
          refine r_iconst C dX11_field_30 ?_
          refine r_goto C dX11_field_31 (tgt := 35) (by decide) ?_
          exact w_X11_field_b35 (fin := fin) C h hK
theorem hdX11_field : zhd yX11_field 1 := by decide +kernel
theorem m_X11_field {l : Launch} {D : va_G} {b0 : Nat} (hl : l.stackTraces = false) {a0 : Nat} {x1 : Int} {μ : Me} {w : Me} (h : s_X11_field a0 x1 μ = some w) : MN l D b0 yX11_field (ws_ yX11_field cX11_field 2 none) 2 [vO a0, vI x1] μ none w :=
  MN.of hl (by decide +kernel) (Nat.le_of_ble_eq_true rfl) (fun Z C _ _ => w_X11_field C h rfl)
noncomputable def s_X11_in (x0 : Int) (x1 : Int) (x2 : Int) (μ : Me) : Option (Int × Me) :=
  (if w32 x0 < w32 x1 then
  some (0, μ)
  else
  (if w32 x2 < w32 x0 then
  some (0, μ)
  else
  some (1, μ)))
theorem w_X11_in {Z : Zt} {fin : Int × Me} {w : Int × Me} (C : CX Z yX11_in cX11_in (some .boolean) 1 3) {x0 : Int} {x1 : Int} {x2 : Int} {μ : Me} (h : s_X11_in x0 x1 x2 μ = some w) (hK : w = fin) : WL Z (QN Z (some (vI fin.1)) fin.2) μ 0 [(0, vI x0), (1, vI x1), (2, vI x2)] [] := by
  unfold s_X11_in at h
  refine r_iload_n C 0 dX11_in_0 rfl rfl ?_
  refine r_iload_n C 1 dX11_in_1 rfl rfl ?_
  refine r_icmp_lt C dX11_in_2 (tgt := 14) (by decide) (fun c1 => ?_) (fun c1 => ?_)
  · have h := it_ h c1
    refine r_iconst C dX11_in_14 ?_
    cases h
    exact r_zret C (Or.inl rfl) hK dX11_in_15
  · have h := ie_ h c1
    refine r_iload_n C 0 dX11_in_5 rfl rfl ?_
    refine r_iload_n C 2 dX11_in_6 rfl rfl ?_
    refine r_icmp_gt C dX11_in_7 (tgt := 14) (by decide) (fun c2 => ?_) (fun c2 => ?_)
    · have h := it_ h c2
      refine r_iconst C dX11_in_14 ?_
      cases h
      exact r_zret C (Or.inl rfl) hK dX11_in_15
    · have h := ie_ h c2
      refine r_iconst C dX11_in_10 ?_
      refine r_goto C dX11_in_11 (tgt := 15) (by decide) ?_
      cases h
      exact r_zret C (Or.inr rfl) hK dX11_in_15
theorem hdX11_in : zhd yX11_in 3 := by decide +kernel
theorem m_X11_in {l : Launch} {D : va_G} {b0 : Nat} (hl : l.stackTraces = false) {x0 : Int} {x1 : Int} {x2 : Int} {μ : Me} {w : Int × Me} (h : s_X11_in x0 x1 x2 μ = some w) : MN l D b0 yX11_in (ws_ yX11_in cX11_in 3 (some .boolean)) 1 [vI x0, vI x1, vI x2] μ (some (vI w.1)) w.2 :=
  MN.of hl (by decide +kernel) (Nat.le_of_ble_eq_true rfl) (fun Z C _ _ => w_X11_in C h rfl)
noncomputable def s_X11_formAt (x0 : Int) (μ : Me) : Option (Int × Me) :=
  some ((6 + (10 * x0)), μ)
theorem w_X11_formAt {Z : Zt} {fin : Int × Me} {w : Int × Me} (C : CX Z yX11_formAt cX11_formAt (some .int) 1 1) {x0 : Int} {μ : Me} (h : s_X11_formAt x0 μ = some w) (hK : w = fin) : WL Z (QN Z (some (vI fin.1)) fin.2) μ 0 [(0, vI x0)] [] := by
  unfold s_X11_formAt at h
  refine r_bipush C dX11_formAt_0 (by decide) ?_
  refine r_bipush C dX11_formAt_2 (by decide) ?_
  refine r_iload_n C 0 dX11_formAt_4 rfl rfl ?_
  refine r_imul C dX11_formAt_5 ?_
  refine r_iadd C dX11_formAt_6 ?_
  cases h
  exact r_iret C hK dX11_formAt_7
theorem hdX11_formAt : zhd yX11_formAt 1 := by decide +kernel
theorem m_X11_formAt {l : Launch} {D : va_G} {b0 : Nat} (hl : l.stackTraces = false) {x0 : Int} {μ : Me} {w : Int × Me} (h : s_X11_formAt x0 μ = some w) : MN l D b0 yX11_formAt (ws_ yX11_formAt cX11_formAt 1 (some .int)) 1 [vI x0] μ (some (vI w.1)) w.2 :=
  MN.of hl (by decide +kernel) (Nat.le_of_ble_eq_true rfl) (fun Z C _ _ => w_X11_formAt C h rfl)
noncomputable def s_X11_p (a0 : Nat) (μ : Me) : Option (Int × Me) :=
  (gR μ 9 a0 1).bind fun v1 =>
  (aI μ 101 v1 0).bind fun v2 =>
  some (v2, μ)
theorem w_X11_p {Z : Zt} {fin : Int × Me} {w : Int × Me} (C : CX Z yX11_p cX11_p (some .int) 1 1) {a0 : Nat} {μ : Me} (h : s_X11_p a0 μ = some w) (hK : w = fin) : WL Z (QN Z (some (vI fin.1)) fin.2) μ 0 [(0, vO a0)] [] := by
  unfold s_X11_p at h
  refine r_aload_n C 0 dX11_p_0 rfl rfl ?_
  obtain ⟨v1, ev1, h⟩ := bs h
  refine r_getR C (c := 9) (r := (RX11, TX11, 38)) rfl 1 (by decide) rfl ev1 q1314 dX11_p_1 ?_
  refine r_iconst C dX11_p_4 ?_
  obtain ⟨v2, ev2, h⟩ := bs h
  refine r_iald C ev2 dX11_p_5 ?_
  cases h
  exact r_iret C hK dX11_p_6
theorem hdX11_p : zhd yX11_p 0 := by decide +kernel
theorem m_X11_p {l : Launch} {D : va_G} {b0 : Nat} (hl : l.stackTraces = false) {a0 : Nat} {μ : Me} {w : Int × Me} (h : s_X11_p a0 μ = some w) : MN l D b0 yX11_p (ws_ yX11_p cX11_p 1 (some .int)) 1 [vO a0] μ (some (vI w.1)) w.2 :=
  MN.of hl (by decide +kernel) (Nat.le_of_ble_eq_true rfl) (fun Z C _ _ => w_X11_p C h rfl)
noncomputable def s_X11_mod (a0 : Nat) (y1 : Int) (μ : Me) : Option (Int × Me) :=
  (ck μ 9 a0).bind fun _ =>
  (s_X11_p a0  μ).bind fun q1 =>
  (s_J6_floorMod_2 y1 (w32 q1.1) q1.2).bind fun q3 =>
  some (q3.1, q3.2)
theorem w_X11_mod {Z : Zt} {fin : Int × Me} {w : Int × Me} (C : CX Z yX11_mod cX11_mod (some .int) 2 3) {a0 : Nat} {y1 : Int} {μ : Me} (h : s_X11_mod a0 y1 μ = some w) (hK : w = fin) : WL Z (QN Z (some (vI fin.1)) fin.2) μ 0 [(0, vO a0), (1, vJ y1)] [] := by
  unfold s_X11_mod at h
  refine r_lload_n C 1 dX11_mod_0 rfl rfl ?_
  refine r_aload_n C 0 dX11_mod_1 rfl rfl ?_
  obtain ⟨u2, eu2, h⟩ := bs h
  obtain ⟨q1, eq1, h⟩ := bs h
  refine r_callV C (As := []) (b := a0) (rest := [vJ y1]) (st1 := [vI q1.1, vJ y1]) (v := some (vI q1.1)) (r := (RX11, TX11, 38)) (ci := 9) rfl eu2 (m_X11_p C.tr eq1) (lw_V q1522 q1524 qs51 q133 q1525) rfl hdX11_p rfl rfl (Nat.le_of_ble_eq_true rfl) ⟨by decide, by decide⟩ dX11_mod_2 rfl ?_
  refine r_i2l C dX11_mod_5 ?_
  obtain ⟨q3, eq3, h⟩ := bs h
  refine r_callS C (As := [vJ y1, vJ (w32 q1.1)]) (rest := []) (st1 := [vJ q3.1]) (v := some (vJ q3.1)) (m_J6_floorMod_2 C.tr eq3) (lw_S q1526 q1527 q137 q1528) hdJ6_floorMod_2 rfl rfl (Nat.le_of_ble_eq_true rfl) ⟨by decide, by decide⟩ dX11_mod_6 rfl ?_
  refine r_l2i C dX11_mod_9 ?_
  cases h
  exact r_iret C hK dX11_mod_10
theorem hdX11_mod : zhd yX11_mod 1 := by decide +kernel
theorem m_X11_mod {l : Launch} {D : va_G} {b0 : Nat} (hl : l.stackTraces = false) {a0 : Nat} {y1 : Int} {μ : Me} {w : Int × Me} (h : s_X11_mod a0 y1 μ = some w) : MN l D b0 yX11_mod (ws_ yX11_mod cX11_mod 3 (some .int)) 2 [vO a0, vJ y1] μ (some (vI w.1)) w.2 :=
  MN.of hl (by decide +kernel) (Nat.le_of_ble_eq_true rfl) (fun Z C _ _ => w_X11_mod C h rfl)
noncomputable def s_X11_form_b122 (a0 : Nat) (x1 : Int)  (μ : Me) : Option (Int × Me) :=
  (gR μ 9 a0 1).bind fun v23 =>
  (aI μ 101 v23 1).bind fun v24 =>
  (uI μ v23 1 (v24 + 1)).bind fun m25 =>
  (gR m25 9 a0 1).bind fun v26 =>
  (uI m25 v26 5 0).bind fun m27 =>
  some (x1, m27)
theorem w_X11_form_b122 {Z : Zt} {fin : Int × Me} {w : (Int × Me)} (C : CX Z yX11_form cX11_form (some .int) 3 3) {a0 : Nat} {x1 : Int}  {μ : Me} (h : s_X11_form_b122 a0 x1 μ = some w) (hK : (fun r : Int × Me => r = fin) w) : WL Z (QN Z (some (vI fin.1)) fin.2) μ 122 [(0, vO a0), (1, vI x1)] [] := by
  unfold s_X11_form_b122 at h
  refine r_aload_n C 0 dX11_form_122 rfl rfl ?_
  obtain ⟨v23, ev23, h⟩ := bs h
  refine r_getR C (c := 9) (r := (RX11, TX11, 38)) rfl 1 (by decide) rfl ev23 q1314 dX11_form_123 ?_
  refine r_iconst C dX11_form_126 ?_
  refine r_dup2 C dX11_form_127 rfl rfl ?_
  obtain ⟨v24, ev24, h⟩ := bs h
  refine r_iald C ev24 dX11_form_128 ?_
  refine r_iconst C dX11_form_129 ?_
  refine r_iadd C dX11_form_130 ?_
  obtain ⟨m25, em25, h⟩ := bs h
  refine r_iast C em25 dX11_form_131 ?_
  refine r_aload_n C 0 dX11_form_132 rfl rfl ?_
  obtain ⟨v26, ev26, h⟩ := bs h
  refine r_getR C (c := 9) (r := (RX11, TX11, 38)) rfl 1 (by decide) rfl ev26 q1314 dX11_form_133 ?_
  refine r_iconst C dX11_form_136 ?_
  refine r_iconst C dX11_form_137 ?_
  obtain ⟨m27, em27, h⟩ := bs h
  refine r_iast C em27 dX11_form_138 ?_
  refine r_iload_n C 1 dX11_form_139 rfl rfl ?_
  cases h
  exact r_iret C hK dX11_form_140
noncomputable def s_X11_form_l80_st (a0 : Nat) (x1 : Int) (x2 : Int) (μ : Me) : Option ((Int × Me) ⊕ (Int × Me)) :=
  (gI μ 9 a0 13).bind fun v21 =>
  (if w32 v21 ≤ w32 x2 then
  (s_X11_form_b122 a0 x1 μ).map Sum.inr
  else
  (gR μ 9 a0 1).bind fun v28 =>
  (s_X11_formAt x1 μ).bind fun q29 =>
  (gR q29.2 9 a0 10).bind fun v30 =>
  (aI q29.2 102 v30 x2).bind fun v31 =>
  (ck q29.2 9 a0).bind fun _ =>
  (s_X11_mod a0 (w32 (anI v31 255)) q29.2).bind fun q32 =>
  (uI q32.2 v28 ((q29.1 + 1) + x2) q32.1).bind fun m34 =>
  some (.inl ((x2 + 1), m34)))
theorem w_X11_form_l80_st {Z : Zt} {fin : Int × Me} {w : ((Int × Me) ⊕ (Int × Me))} (C : CX Z yX11_form cX11_form (some .int) 3 3) {a0 : Nat} {x1 : Int} {x2 : Int} {μ : Me} (h : s_X11_form_l80_st a0 x1 x2 μ = some w) (hK : (Sum.elim (fun s : Int × Me => WL Z (QN Z (some (vI fin.1)) fin.2) s.2 80 [(0, vO a0), (1, vI x1), (2, vI s.1)] []) (fun r : Int × Me => r = fin)) w) : WL Z (QN Z (some (vI fin.1)) fin.2) μ 80 [(0, vO a0), (1, vI x1), (2, vI x2)] [] := by
  unfold s_X11_form_l80_st at h
  refine r_iload_n C 2 dX11_form_80 rfl rfl ?_
  refine r_aload_n C 0 dX11_form_81 rfl rfl ?_
  obtain ⟨v21, ev21, h⟩ := bs h
  refine r_getI C (c := 9) (r := (RX11, TX11, 38)) rfl 13 (by decide) rfl ev21 q1326 dX11_form_82 ?_
  refine r_icmp_ge C dX11_form_85 (tgt := 122) (by decide) (fun c22 => ?_) (fun c22 => ?_)
  · have h := it_ h c22
    obtain ⟨z, hz, ez⟩ := ms_ h; clear h; subst ez; have h := hz; clear hz
    refine r_sub [0, 1] rfl ?_
    exact w_X11_form_b122 (fin := fin) C h hK
  · have h := ie_ h c22
    refine r_aload_n C 0 dX11_form_88 rfl rfl ?_
    obtain ⟨v28, ev28, h⟩ := bs h
    refine r_getR C (c := 9) (r := (RX11, TX11, 38)) rfl 1 (by decide) rfl ev28 q1314 dX11_form_89 ?_
    refine r_iload_n C 1 dX11_form_92 rfl rfl ?_
    obtain ⟨q29, eq29, h⟩ := bs h
    refine r_callS C (As := [vI x1]) (rest := [vO v28]) (st1 := [vI q29.1, vO v28]) (v := some (vI q29.1)) (m_X11_formAt C.tr eq29) (lw_S q1515 q1516 q133 q1517) hdX11_formAt rfl rfl (Nat.le_of_ble_eq_true rfl) ⟨by decide, by decide⟩ dX11_form_93 rfl ?_
    refine r_iconst C dX11_form_96 ?_
    refine r_iadd C dX11_form_97 ?_
    refine r_iload_n C 2 dX11_form_98 rfl rfl ?_
    refine r_iadd C dX11_form_99 ?_
    refine r_aload_n C 0 dX11_form_100 rfl rfl ?_
    refine r_aload_n C 0 dX11_form_101 rfl rfl ?_
    obtain ⟨v30, ev30, h⟩ := bs h
    refine r_getR C (c := 9) (r := (RX11, TX11, 38)) rfl 10 (by decide) rfl ev30 q1323 dX11_form_102 ?_
    refine r_iload_n C 2 dX11_form_105 rfl rfl ?_
    obtain ⟨v31, ev31, h⟩ := bs h
    refine r_bald C ev31 dX11_form_106 ?_
    refine r_sipush C dX11_form_107 (by decide) ?_
    refine r_iand C dX11_form_110 ?_
    refine r_i2l C dX11_form_111 ?_
    obtain ⟨u33, eu33, h⟩ := bs h
    obtain ⟨q32, eq32, h⟩ := bs h
    refine r_callV C (As := [vJ (w32 (anI v31 255))]) (b := a0) (rest := [vI ((q29.1 + 1) + x2), vO v28]) (st1 := [vI q32.1, vI ((q29.1 + 1) + x2), vO v28]) (v := some (vI q32.1)) (r := (RX11, TX11, 38)) (ci := 9) rfl eu33 (m_X11_mod C.tr eq32) (lw_V q1518 q1520 qs50 q133 q1521) rfl hdX11_mod rfl rfl (Nat.le_of_ble_eq_true rfl) ⟨by decide, by decide⟩ dX11_form_112 rfl ?_
    obtain ⟨m34, em34, h⟩ := bs h
    refine r_iast C em34 dX11_form_115 ?_
    refine r_iinc C 2 [(2, vI (x2 + 1)), (0, vO a0), (1, vI x1)] dX11_form_116 rfl (by decide) rfl ?_
    refine r_goto C dX11_form_119 (tgt := 80) (by decide) ?_
    cases h
    refine r_sub [1, 2, 0] rfl ?_
    exact hK
noncomputable def s_X11_form_l80 (a0 : Nat) (x1 : Int) (x2 : Int) (μ : Me) : Option (Int × Me) :=
  whileO (fun s : Int × Me => s_X11_form_l80_st a0 x1 s.1 s.2) (x2, μ)
theorem e_X11_form_l80 (a0 : Nat) (x1 : Int) (x2 : Int) (μ : Me) : s_X11_form_l80 a0 x1 x2 μ = (s_X11_form_l80_st a0 x1 x2 μ).bind fun x => x.elim (fun s : Int × Me => s_X11_form_l80 a0 x1 s.1 s.2) some := whileO_eq _ _
theorem w_X11_form_l80 {Z : Zt} {fin : Int × Me} {w : (Int × Me)} (C : CX Z yX11_form cX11_form (some .int) 3 3) {a0 : Nat} {x1 : Int} {x2 : Int} {μ : Me} (h : s_X11_form_l80 a0 x1 x2 μ = some w) (hK : (fun r : Int × Me => r = fin) w) : WL Z (QN Z (some (vI fin.1)) fin.2) μ 80 [(0, vO a0), (1, vI x1), (2, vI x2)] [] := by
  refine whileO_walk (w := w) (fun s : Int × Me => WL Z (QN Z (some (vI fin.1)) fin.2) s.2 80 [(0, vO a0), (1, vI x1), (2, vI s.1)] []) (fun s v h2 hi hr => ?_) (x2, μ) h
  refine w_X11_form_l80_st (fin := fin) C h2 ?_
  cases v with
  | inl s2 => exact hi s2 rfl
  | inr r => have e := hr r rfl; subst e; exact hK
noncomputable def s_X11_form_b47 (a0 : Nat) (t0 : Int) (t1 : Nat) (μ : Me) : Option (Int × Me) :=
  (ck μ 9 t1).bind fun _ =>
  (s_X11_throwsIf t1 t0 2 μ).bind fun q12 =>
  (if w32 q12.1 = 0 then
  (gR q12.2 9 a0 1).bind fun v15 =>
  (aI q12.2 101 v15 1).bind fun v16 =>
  (gR q12.2 9 a0 1).bind fun v17 =>
  (s_X11_formAt v16 q12.2).bind fun q18 =>
  (gI q18.2 9 a0 13).bind fun v19 =>
  (uI q18.2 v17 q18.1 (v19 - 1)).bind fun m20 =>
  s_X11_form_l80 a0 v16 0 m20
  else
  some (0, q12.2))
theorem w_X11_form_b47 {Z : Zt} {fin : Int × Me} {w : (Int × Me)} (C : CX Z yX11_form cX11_form (some .int) 3 3) {a0 : Nat} {t0 : Int} {t1 : Nat} {μ : Me} (h : s_X11_form_b47 a0 t0 t1 μ = some w) (hK : (fun r : Int × Me => r = fin) w) : WL Z (QN Z (some (vI fin.1)) fin.2) μ 47 [(0, vO a0)] [vI t0, vO t1] := by
  unfold s_X11_form_b47 at h
  refine r_iconst C dX11_form_47 ?_
  obtain ⟨u13, eu13, h⟩ := bs h
  obtain ⟨q12, eq12, h⟩ := bs h
  refine r_callV C (As := [vI t0, vI 2]) (b := t1) (rest := []) (st1 := [vI q12.1]) (v := some (vI q12.1)) (r := (RX11, TX11, 38)) (ci := 9) rfl eu13 (m_X11_throwsIf C.tr eq12) (lw_V q1500 q1502 qs49 q133 q1503) rfl hdX11_throwsIf rfl rfl (Nat.le_of_ble_eq_true rfl) ⟨by decide, by decide⟩ dX11_form_48 rfl ?_
  refine r_if_eq C dX11_form_51 (tgt := 56) (by decide) (fun c14 => ?_) (fun c14 => ?_)
  · have h := it_ h c14
    refine r_aload_n C 0 dX11_form_56 rfl rfl ?_
    obtain ⟨v15, ev15, h⟩ := bs h
    refine r_getR C (c := 9) (r := (RX11, TX11, 38)) rfl 1 (by decide) rfl ev15 q1314 dX11_form_57 ?_
    refine r_iconst C dX11_form_60 ?_
    obtain ⟨v16, ev16, h⟩ := bs h
    refine r_iald C ev16 dX11_form_61 ?_
    refine r_istore_n C [(1, vI v16), (0, vO a0)] dX11_form_62 rfl (by decide) rfl ?_
    refine r_aload_n C 1 dX11_form_63 rfl rfl ?_
    obtain ⟨v17, ev17, h⟩ := bs h
    refine r_getR C (c := 9) (r := (RX11, TX11, 38)) rfl 1 (by decide) rfl ev17 q1314 dX11_form_64 ?_
    refine r_iload_n C 0 dX11_form_67 rfl rfl ?_
    obtain ⟨q18, eq18, h⟩ := bs h
    refine r_callS C (As := [vI v16]) (rest := [vO v17]) (st1 := [vI q18.1, vO v17]) (v := some (vI q18.1)) (m_X11_formAt C.tr eq18) (lw_S q1515 q1516 q133 q1517) hdX11_formAt rfl rfl (Nat.le_of_ble_eq_true rfl) ⟨by decide, by decide⟩ dX11_form_68 rfl ?_
    refine r_aload_n C 1 dX11_form_71 rfl rfl ?_
    obtain ⟨v19, ev19, h⟩ := bs h
    refine r_getI C (c := 9) (r := (RX11, TX11, 38)) rfl 13 (by decide) rfl ev19 q1326 dX11_form_72 ?_
    refine r_iconst C dX11_form_75 ?_
    refine r_isub C dX11_form_76 ?_
    obtain ⟨m20, em20, h⟩ := bs h
    refine r_iast C em20 dX11_form_77 ?_
    refine r_iconst C dX11_form_78 ?_
    refine r_istore_n C [(2, vI 0), (1, vI v16), (0, vO a0)] dX11_form_79 rfl (by decide) rfl ?_
    refine r_sub [2, 1, 0] rfl ?_
    exact w_X11_form_l80 (fin := fin) C h hK
  · have h := ie_ h c14
    refine r_iconst C dX11_form_54 ?_
    cases h
    exact r_iret C hK dX11_form_55
noncomputable def s_X11_form_b23 (a0 : Nat) (t0 : Int) (t1 : Nat) (μ : Me) : Option (Int × Me) :=
  (ck μ 9 t1).bind fun _ =>
  (s_X11_throwsIf t1 t0 1 μ).bind fun q6 =>
  (if w32 q6.1 = 0 then
  (gR q6.2 9 a0 1).bind fun v9 =>
  (aI q6.2 101 v9 1).bind fun v10 =>
  (if w32 v10 = w32 16 then
  s_X11_form_b47 a0 1 a0 q6.2
  else
  s_X11_form_b47 a0 0 a0 q6.2)
  else
  some (0, q6.2))
theorem w_X11_form_b23 {Z : Zt} {fin : Int × Me} {w : (Int × Me)} (C : CX Z yX11_form cX11_form (some .int) 3 3) {a0 : Nat} {t0 : Int} {t1 : Nat} {μ : Me} (h : s_X11_form_b23 a0 t0 t1 μ = some w) (hK : (fun r : Int × Me => r = fin) w) : WL Z (QN Z (some (vI fin.1)) fin.2) μ 23 [(0, vO a0)] [vI t0, vO t1] := by
  unfold s_X11_form_b23 at h
  refine r_iconst C dX11_form_23 ?_
  obtain ⟨u7, eu7, h⟩ := bs h
  obtain ⟨q6, eq6, h⟩ := bs h
  refine r_callV C (As := [vI t0, vI 1]) (b := t1) (rest := []) (st1 := [vI q6.1]) (v := some (vI q6.1)) (r := (RX11, TX11, 38)) (ci := 9) rfl eu7 (m_X11_throwsIf C.tr eq6) (lw_V q1500 q1502 qs49 q133 q1503) rfl hdX11_throwsIf rfl rfl (Nat.le_of_ble_eq_true rfl) ⟨by decide, by decide⟩ dX11_form_24 rfl ?_
  refine r_if_ne C dX11_form_27 (tgt := 54) (by decide) (fun c8 => ?_) (fun c8 => ?_)
  · have h := ie_ h c8
    refine r_iconst C dX11_form_54 ?_
    cases h
    exact r_iret C hK dX11_form_55
  · have h := it_ h c8
    refine r_aload_n C 0 dX11_form_30 rfl rfl ?_
    refine r_aload_n C 0 dX11_form_31 rfl rfl ?_
    obtain ⟨v9, ev9, h⟩ := bs h
    refine r_getR C (c := 9) (r := (RX11, TX11, 38)) rfl 1 (by decide) rfl ev9 q1314 dX11_form_32 ?_
    refine r_iconst C dX11_form_35 ?_
    obtain ⟨v10, ev10, h⟩ := bs h
    refine r_iald C ev10 dX11_form_36 ?_
    refine r_bipush C dX11_form_37 (by decide) ?_
    refine r_icmp_ne C dX11_form_39 (tgt := 46) (by decide) (fun c11 => ?_) (fun c11 => ?_)
    · have h := ie_ h c11
      refine r_iconst C dX11_form_46 ?_
      exact w_X11_form_b47 (fin := fin) C h hK
    · have h := it_ h c11
      refine r_iconst C dX11_form_42 ?_
      refine r_goto C dX11_form_43 (tgt := 47) (by decide) ?_
      exact w_X11_form_b47 (fin := fin) C h hK
noncomputable def s_X11_form (a0 : Nat) (μ : Me) : Option (Int × Me) :=
  (ck μ 9 a0).bind fun _ =>
  (s_X11_uses a0  μ).bind fun q1 =>
  (gI q1 9 a0 13).bind fun v3 =>
  (s_X11_in v3 1 9 q1).bind fun q4 =>
  (if w32 q4.1 = 0 then
  s_X11_form_b23 a0 1 a0 q4.2
  else
  s_X11_form_b23 a0 0 a0 q4.2)
theorem w_X11_form {Z : Zt} {fin : Int × Me} {w : Int × Me} (C : CX Z yX11_form cX11_form (some .int) 3 3) {a0 : Nat} {μ : Me} (h : s_X11_form a0 μ = some w) (hK : w = fin) : WL Z (QN Z (some (vI fin.1)) fin.2) μ 0 [(0, vO a0)] [] := by
  unfold s_X11_form at h
  refine r_aload_n C 0 dX11_form_0 rfl rfl ?_
  obtain ⟨u2, eu2, h⟩ := bs h
  obtain ⟨q1, eq1, h⟩ := bs h
  refine r_callV C (As := []) (b := a0) (rest := []) (st1 := []) (v := none) (r := (RX11, TX11, 38)) (ci := 9) rfl eu2 (m_X11_uses C.tr eq1) (lw_V q1452 q1454 qs37 q133 q1455) rfl hdX11_uses rfl rfl (Nat.le_of_ble_eq_true rfl) ⟨by decide, by decide⟩ dX11_form_1 rfl ?_
  refine r_aload_n C 0 dX11_form_4 rfl rfl ?_
  refine r_aload_n C 0 dX11_form_5 rfl rfl ?_
  obtain ⟨v3, ev3, h⟩ := bs h
  refine r_getI C (c := 9) (r := (RX11, TX11, 38)) rfl 13 (by decide) rfl ev3 q1326 dX11_form_6 ?_
  refine r_iconst C dX11_form_9 ?_
  refine r_bipush C dX11_form_10 (by decide) ?_
  obtain ⟨q4, eq4, h⟩ := bs h
  refine r_callS C (As := [vI v3, vI 1, vI 9]) (rest := [vO a0]) (st1 := [vI q4.1, vO a0]) (v := some (vI q4.1)) (m_X11_in C.tr eq4) (lw_S q1512 q1513 q133 q1514) hdX11_in rfl rfl (Nat.le_of_ble_eq_true rfl) ⟨by decide, by decide⟩ dX11_form_12 rfl ?_
  refine r_if_ne C dX11_form_15 (tgt := 22) (by decide) (fun c5 => ?_) (fun c5 => ?_)
  · have h := ie_ h c5
    refine r_iconst C dX11_form_22 ?_
    exact w_X11_form_b23 (fin := fin) C h hK
  · have h := it_ h c5
    refine r_iconst C dX11_form_18 ?_
    refine r_goto C dX11_form_19 (tgt := 23) (by decide) ?_
    exact w_X11_form_b23 (fin := fin) C h hK
theorem hdX11_form : zhd yX11_form 0 := by decide +kernel
theorem m_X11_form {l : Launch} {D : va_G} {b0 : Nat} (hl : l.stackTraces = false) {a0 : Nat} {μ : Me} {w : Int × Me} (h : s_X11_form a0 μ = some w) : MN l D b0 yX11_form (ws_ yX11_form cX11_form 3 (some .int)) 3 [vO a0] μ (some (vI w.1)) w.2 :=
  MN.of hl (by decide +kernel) (Nat.le_of_ble_eq_true rfl) (fun Z C _ _ => w_X11_form C h rfl)
noncomputable def s_X11_takesTable (a0 : Nat) (x1 : Int) (x2 : Int) (x3 : Int) (x4 : Int) (μ : Me) : Option (Me) :=
  (pI μ 9 a0 6 x1).bind fun m1 =>
  (pI m1 9 a0 7 x2).bind fun m2 =>
  (pI m2 9 a0 8 x3).bind fun m3 =>
  (pI m3 9 a0 9 x4).bind fun m4 =>
  some m4
theorem w_X11_takesTable {Z : Zt} {fin : Me} {w : Me} (C : CX Z yX11_takesTable cX11_takesTable none 1 5) {a0 : Nat} {x1 : Int} {x2 : Int} {x3 : Int} {x4 : Int} {μ : Me} (h : s_X11_takesTable a0 x1 x2 x3 x4 μ = some w) (hK : w = fin) : WL Z (QN Z none fin) μ 0 [(0, vO a0), (1, vI x1), (2, vI x2), (3, vI x3), (4, vI x4)] [] := by
  unfold s_X11_takesTable at h
  refine r_aload_n C 0 dX11_takesTable_0 rfl rfl ?_
  refine r_iload_n C 1 dX11_takesTable_1 rfl rfl ?_
  obtain ⟨m1, em1, h⟩ := bs h
  refine r_putI C (c := 9) (r := (RX11, TX11, 38)) rfl 6 (by decide) rfl ⟨rfl, rfl⟩ rfl em1 q1319 dX11_takesTable_2 ?_
  refine r_aload_n C 0 dX11_takesTable_5 rfl rfl ?_
  refine r_iload_n C 2 dX11_takesTable_6 rfl rfl ?_
  obtain ⟨m2, em2, h⟩ := bs h
  refine r_putI C (c := 9) (r := (RX11, TX11, 38)) rfl 7 (by decide) rfl ⟨rfl, rfl⟩ rfl em2 q1320 dX11_takesTable_7 ?_
  refine r_aload_n C 0 dX11_takesTable_10 rfl rfl ?_
  refine r_iload_n C 3 dX11_takesTable_11 rfl rfl ?_
  obtain ⟨m3, em3, h⟩ := bs h
  refine r_putI C (c := 9) (r := (RX11, TX11, 38)) rfl 8 (by decide) rfl ⟨rfl, rfl⟩ rfl em3 q1321 dX11_takesTable_12 ?_
  refine r_aload_n C 0 dX11_takesTable_15 rfl rfl ?_
  refine r_iload C 4 dX11_takesTable_16 rfl ?_
  obtain ⟨m4, em4, h⟩ := bs h
  refine r_putI C (c := 9) (r := (RX11, TX11, 38)) rfl 9 (by decide) rfl ⟨rfl, rfl⟩ rfl em4 q1322 dX11_takesTable_18 ?_
  cases h
  exact r_vret C hK dX11_takesTable_21
theorem hdX11_takesTable : zhd yX11_takesTable 4 := by decide +kernel
theorem m_X11_takesTable {l : Launch} {D : va_G} {b0 : Nat} (hl : l.stackTraces = false) {a0 : Nat} {x1 : Int} {x2 : Int} {x3 : Int} {x4 : Int} {μ : Me} {w : Me} (h : s_X11_takesTable a0 x1 x2 x3 x4 μ = some w) : MN l D b0 yX11_takesTable (ws_ yX11_takesTable cX11_takesTable 5 none) 1 [vO a0, vI x1, vI x2, vI x3, vI x4] μ none w :=
  MN.of hl (by decide +kernel) (Nat.le_of_ble_eq_true rfl) (fun Z C _ _ => w_X11_takesTable C h rfl)
noncomputable def s_X11_times (a0 : Nat) (x1 : Int) (x2 : Int) (μ : Me) : Option (Int × Me) :=
  (ck μ 9 a0).bind fun _ =>
  (s_X11_p a0  μ).bind fun q1 =>
  (rmI (x1 * x2) q1.1).bind fun v3 =>
  some (v3, q1.2)
theorem w_X11_times {Z : Zt} {fin : Int × Me} {w : Int × Me} (C : CX Z yX11_times cX11_times (some .int) 2 3) {a0 : Nat} {x1 : Int} {x2 : Int} {μ : Me} (h : s_X11_times a0 x1 x2 μ = some w) (hK : w = fin) : WL Z (QN Z (some (vI fin.1)) fin.2) μ 0 [(0, vO a0), (1, vI x1), (2, vI x2)] [] := by
  unfold s_X11_times at h
  refine r_iload_n C 1 dX11_times_0 rfl rfl ?_
  refine r_iload_n C 2 dX11_times_1 rfl rfl ?_
  refine r_imul C dX11_times_2 ?_
  refine r_aload_n C 0 dX11_times_3 rfl rfl ?_
  obtain ⟨u2, eu2, h⟩ := bs h
  obtain ⟨q1, eq1, h⟩ := bs h
  refine r_callV C (As := []) (b := a0) (rest := [vI (x1 * x2)]) (st1 := [vI q1.1, vI (x1 * x2)]) (v := some (vI q1.1)) (r := (RX11, TX11, 38)) (ci := 9) rfl eu2 (m_X11_p C.tr eq1) (lw_V q1522 q1524 qs51 q133 q1525) rfl hdX11_p rfl rfl (Nat.le_of_ble_eq_true rfl) ⟨by decide, by decide⟩ dX11_times_4 rfl ?_
  obtain ⟨v3, ev3, h⟩ := bs h
  refine r_irem C ev3 dX11_times_7 ?_
  cases h
  exact r_iret C hK dX11_times_8
theorem hdX11_times : zhd yX11_times 2 := by decide +kernel
theorem m_X11_times {l : Launch} {D : va_G} {b0 : Nat} (hl : l.stackTraces = false) {a0 : Nat} {x1 : Int} {x2 : Int} {μ : Me} {w : Int × Me} (h : s_X11_times a0 x1 x2 μ = some w) : MN l D b0 yX11_times (ws_ yX11_times cX11_times 3 (some .int)) 2 [vO a0, vI x1, vI x2] μ (some (vI w.1)) w.2 :=
  MN.of hl (by decide +kernel) (Nat.le_of_ble_eq_true rfl) (fun Z C _ _ => w_X11_times C h rfl)
noncomputable def s_X11_less (a0 : Nat) (x1 : Int) (x2 : Int) (μ : Me) : Option (Int × Me) :=
  (ck μ 9 a0).bind fun _ =>
  (s_X11_p a0  μ).bind fun q1 =>
  (ck q1.2 9 a0).bind fun _ =>
  (s_X11_p a0  q1.2).bind fun q3 =>
  (rmI ((x1 - x2) + q1.1) q3.1).bind fun v5 =>
  some (v5, q3.2)
theorem w_X11_less {Z : Zt} {fin : Int × Me} {w : Int × Me} (C : CX Z yX11_less cX11_less (some .int) 2 3) {a0 : Nat} {x1 : Int} {x2 : Int} {μ : Me} (h : s_X11_less a0 x1 x2 μ = some w) (hK : w = fin) : WL Z (QN Z (some (vI fin.1)) fin.2) μ 0 [(0, vO a0), (1, vI x1), (2, vI x2)] [] := by
  unfold s_X11_less at h
  refine r_iload_n C 1 dX11_less_0 rfl rfl ?_
  refine r_iload_n C 2 dX11_less_1 rfl rfl ?_
  refine r_isub C dX11_less_2 ?_
  refine r_aload_n C 0 dX11_less_3 rfl rfl ?_
  obtain ⟨u2, eu2, h⟩ := bs h
  obtain ⟨q1, eq1, h⟩ := bs h
  refine r_callV C (As := []) (b := a0) (rest := [vI (x1 - x2)]) (st1 := [vI q1.1, vI (x1 - x2)]) (v := some (vI q1.1)) (r := (RX11, TX11, 38)) (ci := 9) rfl eu2 (m_X11_p C.tr eq1) (lw_V q1522 q1524 qs51 q133 q1525) rfl hdX11_p rfl rfl (Nat.le_of_ble_eq_true rfl) ⟨by decide, by decide⟩ dX11_less_4 rfl ?_
  refine r_iadd C dX11_less_7 ?_
  refine r_aload_n C 0 dX11_less_8 rfl rfl ?_
  obtain ⟨u4, eu4, h⟩ := bs h
  obtain ⟨q3, eq3, h⟩ := bs h
  refine r_callV C (As := []) (b := a0) (rest := [vI ((x1 - x2) + q1.1)]) (st1 := [vI q3.1, vI ((x1 - x2) + q1.1)]) (v := some (vI q3.1)) (r := (RX11, TX11, 38)) (ci := 9) rfl eu4 (m_X11_p C.tr eq3) (lw_V q1522 q1524 qs51 q133 q1525) rfl hdX11_p rfl rfl (Nat.le_of_ble_eq_true rfl) ⟨by decide, by decide⟩ dX11_less_9 rfl ?_
  obtain ⟨v5, ev5, h⟩ := bs h
  refine r_irem C ev5 dX11_less_12 ?_
  cases h
  exact r_iret C hK dX11_less_13
theorem hdX11_less : zhd yX11_less 2 := by decide +kernel
theorem m_X11_less {l : Launch} {D : va_G} {b0 : Nat} (hl : l.stackTraces = false) {a0 : Nat} {x1 : Int} {x2 : Int} {μ : Me} {w : Int × Me} (h : s_X11_less a0 x1 x2 μ = some w) : MN l D b0 yX11_less (ws_ yX11_less cX11_less 3 (some .int)) 2 [vO a0, vI x1, vI x2] μ (some (vI w.1)) w.2 :=
  MN.of hl (by decide +kernel) (Nat.le_of_ble_eq_true rfl) (fun Z C _ _ => w_X11_less C h rfl)
noncomputable def s_X11_detNow (a0 : Nat) (μ : Me) : Option (Int × Me) :=
  (gI μ 9 a0 6).bind fun v1 =>
  (gI μ 9 a0 9).bind fun v2 =>
  (ck μ 9 a0).bind fun _ =>
  (s_X11_times a0 v1 v2 μ).bind fun q3 =>
  (gI q3.2 9 a0 7).bind fun v5 =>
  (gI q3.2 9 a0 8).bind fun v6 =>
  (ck q3.2 9 a0).bind fun _ =>
  (s_X11_times a0 v5 v6 q3.2).bind fun q7 =>
  (ck q7.2 9 a0).bind fun _ =>
  (s_X11_less a0 q3.1 q7.1 q7.2).bind fun q9 =>
  some (q9.1, q9.2)
theorem w_X11_detNow {Z : Zt} {fin : Int × Me} {w : Int × Me} (C : CX Z yX11_detNow cX11_detNow (some .int) 3 1) {a0 : Nat} {μ : Me} (h : s_X11_detNow a0 μ = some w) (hK : w = fin) : WL Z (QN Z (some (vI fin.1)) fin.2) μ 0 [(0, vO a0)] [] := by
  unfold s_X11_detNow at h
  refine r_aload_n C 0 dX11_detNow_0 rfl rfl ?_
  refine r_aload_n C 0 dX11_detNow_1 rfl rfl ?_
  refine r_aload_n C 0 dX11_detNow_2 rfl rfl ?_
  obtain ⟨v1, ev1, h⟩ := bs h
  refine r_getI C (c := 9) (r := (RX11, TX11, 38)) rfl 6 (by decide) rfl ev1 q1319 dX11_detNow_3 ?_
  refine r_aload_n C 0 dX11_detNow_6 rfl rfl ?_
  obtain ⟨v2, ev2, h⟩ := bs h
  refine r_getI C (c := 9) (r := (RX11, TX11, 38)) rfl 9 (by decide) rfl ev2 q1322 dX11_detNow_7 ?_
  obtain ⟨u4, eu4, h⟩ := bs h
  obtain ⟨q3, eq3, h⟩ := bs h
  refine r_callV C (As := [vI v1, vI v2]) (b := a0) (rest := [vO a0]) (st1 := [vI q3.1, vO a0]) (v := some (vI q3.1)) (r := (RX11, TX11, 38)) (ci := 9) rfl eu4 (m_X11_times C.tr eq3) (lw_V q1541 q1543 qs54 q133 q1544) rfl hdX11_times rfl rfl (Nat.le_of_ble_eq_true rfl) ⟨by decide, by decide⟩ dX11_detNow_10 rfl ?_
  refine r_aload_n C 0 dX11_detNow_13 rfl rfl ?_
  refine r_aload_n C 0 dX11_detNow_14 rfl rfl ?_
  obtain ⟨v5, ev5, h⟩ := bs h
  refine r_getI C (c := 9) (r := (RX11, TX11, 38)) rfl 7 (by decide) rfl ev5 q1320 dX11_detNow_15 ?_
  refine r_aload_n C 0 dX11_detNow_18 rfl rfl ?_
  obtain ⟨v6, ev6, h⟩ := bs h
  refine r_getI C (c := 9) (r := (RX11, TX11, 38)) rfl 8 (by decide) rfl ev6 q1321 dX11_detNow_19 ?_
  obtain ⟨u8, eu8, h⟩ := bs h
  obtain ⟨q7, eq7, h⟩ := bs h
  refine r_callV C (As := [vI v5, vI v6]) (b := a0) (rest := [vI q3.1, vO a0]) (st1 := [vI q7.1, vI q3.1, vO a0]) (v := some (vI q7.1)) (r := (RX11, TX11, 38)) (ci := 9) rfl eu8 (m_X11_times C.tr eq7) (lw_V q1541 q1543 qs54 q133 q1544) rfl hdX11_times rfl rfl (Nat.le_of_ble_eq_true rfl) ⟨by decide, by decide⟩ dX11_detNow_22 rfl ?_
  obtain ⟨u10, eu10, h⟩ := bs h
  obtain ⟨q9, eq9, h⟩ := bs h
  refine r_callV C (As := [vI q3.1, vI q7.1]) (b := a0) (rest := []) (st1 := [vI q9.1]) (v := some (vI q9.1)) (r := (RX11, TX11, 38)) (ci := 9) rfl eu10 (m_X11_less C.tr eq9) (lw_V q1545 q1547 qs55 q133 q1548) rfl hdX11_less rfl rfl (Nat.le_of_ble_eq_true rfl) ⟨by decide, by decide⟩ dX11_detNow_25 rfl ?_
  cases h
  exact r_iret C hK dX11_detNow_28
theorem hdX11_detNow : zhd yX11_detNow 0 := by decide +kernel
theorem m_X11_detNow {l : Launch} {D : va_G} {b0 : Nat} (hl : l.stackTraces = false) {a0 : Nat} {μ : Me} {w : Int × Me} (h : s_X11_detNow a0 μ = some w) : MN l D b0 yX11_detNow (ws_ yX11_detNow cX11_detNow 1 (some .int)) 3 [vO a0] μ (some (vI w.1)) w.2 :=
  MN.of hl (by decide +kernel) (Nat.le_of_ble_eq_true rfl) (fun Z C _ _ => w_X11_detNow C h rfl)
noncomputable def s_X11_lays (a0 : Nat) (μ : Me) : Option (Int × Me) :=
  (gR μ 9 a0 1).bind fun v1 =>
  (aI μ 101 v1 2).bind fun v2 =>
  (gR μ 9 a0 1).bind fun v3 =>
  (gI μ 9 a0 6).bind fun v4 =>
  (uI μ v3 (166 + (4 * v2)) v4).bind fun m5 =>
  (gR m5 9 a0 1).bind fun v6 =>
  (gI m5 9 a0 7).bind fun v7 =>
  (uI m5 v6 ((166 + (4 * v2)) + 1) v7).bind fun m8 =>
  (gR m8 9 a0 1).bind fun v9 =>
  (gI m8 9 a0 8).bind fun v10 =>
  (uI m8 v9 ((166 + (4 * v2)) + 2) v10).bind fun m11 =>
  (gR m11 9 a0 1).bind fun v12 =>
  (gI m11 9 a0 9).bind fun v13 =>
  (uI m11 v12 ((166 + (4 * v2)) + 3) v13).bind fun m14 =>
  (gR m14 9 a0 1).bind fun v15 =>
  (aI m14 101 v15 2).bind fun v16 =>
  (uI m14 v15 2 (v16 + 1)).bind fun m17 =>
  (gR m17 9 a0 1).bind fun v18 =>
  (aI m17 101 v18 2).bind fun v19 =>
  some ((v19 - 1), m17)
theorem w_X11_lays {Z : Zt} {fin : Int × Me} {w : Int × Me} (C : CX Z yX11_lays cX11_lays (some .int) 1 2) {a0 : Nat} {μ : Me} (h : s_X11_lays a0 μ = some w) (hK : w = fin) : WL Z (QN Z (some (vI fin.1)) fin.2) μ 0 [(0, vO a0)] [] := by
  unfold s_X11_lays at h
  refine r_sipush C dX11_lays_0 (by decide) ?_
  refine r_iconst C dX11_lays_3 ?_
  refine r_aload_n C 0 dX11_lays_4 rfl rfl ?_
  obtain ⟨v1, ev1, h⟩ := bs h
  refine r_getR C (c := 9) (r := (RX11, TX11, 38)) rfl 1 (by decide) rfl ev1 q1314 dX11_lays_5 ?_
  refine r_iconst C dX11_lays_8 ?_
  obtain ⟨v2, ev2, h⟩ := bs h
  refine r_iald C ev2 dX11_lays_9 ?_
  refine r_imul C dX11_lays_10 ?_
  refine r_iadd C dX11_lays_11 ?_
  refine r_istore_n C [(1, vI (166 + (4 * v2))), (0, vO a0)] dX11_lays_12 rfl (by decide) rfl ?_
  refine r_aload_n C 1 dX11_lays_13 rfl rfl ?_
  obtain ⟨v3, ev3, h⟩ := bs h
  refine r_getR C (c := 9) (r := (RX11, TX11, 38)) rfl 1 (by decide) rfl ev3 q1314 dX11_lays_14 ?_
  refine r_iload_n C 0 dX11_lays_17 rfl rfl ?_
  refine r_aload_n C 1 dX11_lays_18 rfl rfl ?_
  obtain ⟨v4, ev4, h⟩ := bs h
  refine r_getI C (c := 9) (r := (RX11, TX11, 38)) rfl 6 (by decide) rfl ev4 q1319 dX11_lays_19 ?_
  obtain ⟨m5, em5, h⟩ := bs h
  refine r_iast C em5 dX11_lays_22 ?_
  refine r_aload_n C 1 dX11_lays_23 rfl rfl ?_
  obtain ⟨v6, ev6, h⟩ := bs h
  refine r_getR C (c := 9) (r := (RX11, TX11, 38)) rfl 1 (by decide) rfl ev6 q1314 dX11_lays_24 ?_
  refine r_iload_n C 0 dX11_lays_27 rfl rfl ?_
  refine r_iconst C dX11_lays_28 ?_
  refine r_iadd C dX11_lays_29 ?_
  refine r_aload_n C 1 dX11_lays_30 rfl rfl ?_
  obtain ⟨v7, ev7, h⟩ := bs h
  refine r_getI C (c := 9) (r := (RX11, TX11, 38)) rfl 7 (by decide) rfl ev7 q1320 dX11_lays_31 ?_
  obtain ⟨m8, em8, h⟩ := bs h
  refine r_iast C em8 dX11_lays_34 ?_
  refine r_aload_n C 1 dX11_lays_35 rfl rfl ?_
  obtain ⟨v9, ev9, h⟩ := bs h
  refine r_getR C (c := 9) (r := (RX11, TX11, 38)) rfl 1 (by decide) rfl ev9 q1314 dX11_lays_36 ?_
  refine r_iload_n C 0 dX11_lays_39 rfl rfl ?_
  refine r_iconst C dX11_lays_40 ?_
  refine r_iadd C dX11_lays_41 ?_
  refine r_aload_n C 1 dX11_lays_42 rfl rfl ?_
  obtain ⟨v10, ev10, h⟩ := bs h
  refine r_getI C (c := 9) (r := (RX11, TX11, 38)) rfl 8 (by decide) rfl ev10 q1321 dX11_lays_43 ?_
  obtain ⟨m11, em11, h⟩ := bs h
  refine r_iast C em11 dX11_lays_46 ?_
  refine r_aload_n C 1 dX11_lays_47 rfl rfl ?_
  obtain ⟨v12, ev12, h⟩ := bs h
  refine r_getR C (c := 9) (r := (RX11, TX11, 38)) rfl 1 (by decide) rfl ev12 q1314 dX11_lays_48 ?_
  refine r_iload_n C 0 dX11_lays_51 rfl rfl ?_
  refine r_iconst C dX11_lays_52 ?_
  refine r_iadd C dX11_lays_53 ?_
  refine r_aload_n C 1 dX11_lays_54 rfl rfl ?_
  obtain ⟨v13, ev13, h⟩ := bs h
  refine r_getI C (c := 9) (r := (RX11, TX11, 38)) rfl 9 (by decide) rfl ev13 q1322 dX11_lays_55 ?_
  obtain ⟨m14, em14, h⟩ := bs h
  refine r_iast C em14 dX11_lays_58 ?_
  refine r_aload_n C 1 dX11_lays_59 rfl rfl ?_
  obtain ⟨v15, ev15, h⟩ := bs h
  refine r_getR C (c := 9) (r := (RX11, TX11, 38)) rfl 1 (by decide) rfl ev15 q1314 dX11_lays_60 ?_
  refine r_iconst C dX11_lays_63 ?_
  refine r_dup2 C dX11_lays_64 rfl rfl ?_
  obtain ⟨v16, ev16, h⟩ := bs h
  refine r_iald C ev16 dX11_lays_65 ?_
  refine r_iconst C dX11_lays_66 ?_
  refine r_iadd C dX11_lays_67 ?_
  obtain ⟨m17, em17, h⟩ := bs h
  refine r_iast C em17 dX11_lays_68 ?_
  refine r_aload_n C 1 dX11_lays_69 rfl rfl ?_
  obtain ⟨v18, ev18, h⟩ := bs h
  refine r_getR C (c := 9) (r := (RX11, TX11, 38)) rfl 1 (by decide) rfl ev18 q1314 dX11_lays_70 ?_
  refine r_iconst C dX11_lays_73 ?_
  obtain ⟨v19, ev19, h⟩ := bs h
  refine r_iald C ev19 dX11_lays_74 ?_
  refine r_iconst C dX11_lays_75 ?_
  refine r_isub C dX11_lays_76 ?_
  cases h
  exact r_iret C hK dX11_lays_77
theorem hdX11_lays : zhd yX11_lays 0 := by decide +kernel
theorem m_X11_lays {l : Launch} {D : va_G} {b0 : Nat} (hl : l.stackTraces = false) {a0 : Nat} {μ : Me} {w : Int × Me} (h : s_X11_lays a0 μ = some w) : MN l D b0 yX11_lays (ws_ yX11_lays cX11_lays 2 (some .int)) 1 [vO a0] μ (some (vI w.1)) w.2 :=
  MN.of hl (by decide +kernel) (Nat.le_of_ble_eq_true rfl) (fun Z C _ _ => w_X11_lays C h rfl)
noncomputable def s_X11_table_b71 (a0 : Nat) (t0 : Int) (t1 : Nat) (μ : Me) : Option (Int × Me) :=
  (ck μ 9 t1).bind fun _ =>
  (s_X11_throwsIf t1 t0 2 μ).bind fun q21 =>
  (if w32 q21.1 = 0 then
  (ck q21.2 9 a0).bind fun _ =>
  (s_X11_lays a0  q21.2).bind fun q24 =>
  some (q24.1, q24.2)
  else
  some (0, q21.2))
theorem w_X11_table_b71 {Z : Zt} {fin : Int × Me} {w : (Int × Me)} (C : CX Z yX11_table cX11_table (some .int) 4 5) {a0 : Nat} {t0 : Int} {t1 : Nat} {μ : Me} (h : s_X11_table_b71 a0 t0 t1 μ = some w) (hK : (fun r : Int × Me => r = fin) w) : WL Z (QN Z (some (vI fin.1)) fin.2) μ 71 [(0, vO a0)] [vI t0, vO t1] := by
  unfold s_X11_table_b71 at h
  refine r_iconst C dX11_table_71 ?_
  obtain ⟨u22, eu22, h⟩ := bs h
  obtain ⟨q21, eq21, h⟩ := bs h
  refine r_callV C (As := [vI t0, vI 2]) (b := t1) (rest := []) (st1 := [vI q21.1]) (v := some (vI q21.1)) (r := (RX11, TX11, 38)) (ci := 9) rfl eu22 (m_X11_throwsIf C.tr eq21) (lw_V q1500 q1502 qs49 q133 q1503) rfl hdX11_throwsIf rfl rfl (Nat.le_of_ble_eq_true rfl) ⟨by decide, by decide⟩ dX11_table_72 rfl ?_
  refine r_if_eq C dX11_table_75 (tgt := 82) (by decide) (fun c23 => ?_) (fun c23 => ?_)
  · have h := it_ h c23
    refine r_aload_n C 0 dX11_table_82 rfl rfl ?_
    obtain ⟨u25, eu25, h⟩ := bs h
    obtain ⟨q24, eq24, h⟩ := bs h
    refine r_callV C (As := []) (b := a0) (rest := []) (st1 := [vI q24.1]) (v := some (vI q24.1)) (r := (RX11, TX11, 38)) (ci := 9) rfl eu25 (m_X11_lays C.tr eq24) (lw_V q1549 q1551 qs56 q133 q1552) rfl hdX11_lays rfl rfl (Nat.le_of_ble_eq_true rfl) ⟨by decide, by decide⟩ dX11_table_83 rfl ?_
    cases h
    exact r_iret C hK dX11_table_86
  · have h := ie_ h c23
    refine r_iconst C dX11_table_78 ?_
    refine r_goto C dX11_table_79 (tgt := 86) (by decide) ?_
    cases h
    exact r_iret C hK dX11_table_86
noncomputable def s_X11_table_b47 (a0 : Nat) (t0 : Int) (t1 : Nat) (μ : Me) : Option (Int × Me) :=
  (ck μ 9 t1).bind fun _ =>
  (s_X11_throwsIf t1 t0 1 μ).bind fun q15 =>
  (if w32 q15.1 = 0 then
  (gR q15.2 9 a0 1).bind fun v18 =>
  (aI q15.2 101 v18 2).bind fun v19 =>
  (if w32 v19 = w32 8 then
  s_X11_table_b71 a0 1 a0 q15.2
  else
  s_X11_table_b71 a0 0 a0 q15.2)
  else
  some (0, q15.2))
theorem w_X11_table_b47 {Z : Zt} {fin : Int × Me} {w : (Int × Me)} (C : CX Z yX11_table cX11_table (some .int) 4 5) {a0 : Nat} {t0 : Int} {t1 : Nat} {μ : Me} (h : s_X11_table_b47 a0 t0 t1 μ = some w) (hK : (fun r : Int × Me => r = fin) w) : WL Z (QN Z (some (vI fin.1)) fin.2) μ 47 [(0, vO a0)] [vI t0, vO t1] := by
  unfold s_X11_table_b47 at h
  refine r_iconst C dX11_table_47 ?_
  obtain ⟨u16, eu16, h⟩ := bs h
  obtain ⟨q15, eq15, h⟩ := bs h
  refine r_callV C (As := [vI t0, vI 1]) (b := t1) (rest := []) (st1 := [vI q15.1]) (v := some (vI q15.1)) (r := (RX11, TX11, 38)) (ci := 9) rfl eu16 (m_X11_throwsIf C.tr eq15) (lw_V q1500 q1502 qs49 q133 q1503) rfl hdX11_throwsIf rfl rfl (Nat.le_of_ble_eq_true rfl) ⟨by decide, by decide⟩ dX11_table_48 rfl ?_
  refine r_if_ne C dX11_table_51 (tgt := 78) (by decide) (fun c17 => ?_) (fun c17 => ?_)
  · have h := ie_ h c17
    refine r_iconst C dX11_table_78 ?_
    refine r_goto C dX11_table_79 (tgt := 86) (by decide) ?_
    cases h
    exact r_iret C hK dX11_table_86
  · have h := it_ h c17
    refine r_aload_n C 0 dX11_table_54 rfl rfl ?_
    refine r_aload_n C 0 dX11_table_55 rfl rfl ?_
    obtain ⟨v18, ev18, h⟩ := bs h
    refine r_getR C (c := 9) (r := (RX11, TX11, 38)) rfl 1 (by decide) rfl ev18 q1314 dX11_table_56 ?_
    refine r_iconst C dX11_table_59 ?_
    obtain ⟨v19, ev19, h⟩ := bs h
    refine r_iald C ev19 dX11_table_60 ?_
    refine r_bipush C dX11_table_61 (by decide) ?_
    refine r_icmp_ne C dX11_table_63 (tgt := 70) (by decide) (fun c20 => ?_) (fun c20 => ?_)
    · have h := ie_ h c20
      refine r_iconst C dX11_table_70 ?_
      exact w_X11_table_b71 (fin := fin) C h hK
    · have h := it_ h c20
      refine r_iconst C dX11_table_66 ?_
      refine r_goto C dX11_table_67 (tgt := 71) (by decide) ?_
      exact w_X11_table_b71 (fin := fin) C h hK
noncomputable def s_X11_table (a0 : Nat) (x1 : Int) (x2 : Int) (x3 : Int) (x4 : Int) (μ : Me) : Option (Int × Me) :=
  (pI μ 9 a0 0 0).bind fun m1 =>
  (ck m1 9 a0).bind fun _ =>
  (s_X11_mod a0 (w32 x1) m1).bind fun q2 =>
  (ck q2.2 9 a0).bind fun _ =>
  (s_X11_mod a0 (w32 x2) q2.2).bind fun q4 =>
  (ck q4.2 9 a0).bind fun _ =>
  (s_X11_mod a0 (w32 x3) q4.2).bind fun q6 =>
  (ck q6.2 9 a0).bind fun _ =>
  (s_X11_mod a0 (w32 x4) q6.2).bind fun q8 =>
  (ck q8.2 9 a0).bind fun _ =>
  (s_X11_takesTable a0 q2.1 q4.1 q6.1 q8.1 q8.2).bind fun q10 =>
  (ck q10 9 a0).bind fun _ =>
  (s_X11_detNow a0  q10).bind fun q12 =>
  (if w32 q12.1 = 0 then
  s_X11_table_b47 a0 1 a0 q12.2
  else
  s_X11_table_b47 a0 0 a0 q12.2)
theorem w_X11_table {Z : Zt} {fin : Int × Me} {w : Int × Me} (C : CX Z yX11_table cX11_table (some .int) 4 5) {a0 : Nat} {x1 : Int} {x2 : Int} {x3 : Int} {x4 : Int} {μ : Me} (h : s_X11_table a0 x1 x2 x3 x4 μ = some w) (hK : w = fin) : WL Z (QN Z (some (vI fin.1)) fin.2) μ 0 [(0, vO a0), (1, vI x1), (2, vI x2), (3, vI x3), (4, vI x4)] [] := by
  unfold s_X11_table at h
  refine r_aload_n C 0 dX11_table_0 rfl rfl ?_
  refine r_iconst C dX11_table_1 ?_
  obtain ⟨m1, em1, h⟩ := bs h
  refine r_putI C (c := 9) (r := (RX11, TX11, 38)) rfl 0 (by decide) rfl ⟨rfl, rfl⟩ rfl em1 q1313 dX11_table_2 ?_
  refine r_aload_n C 0 dX11_table_5 rfl rfl ?_
  refine r_aload_n C 0 dX11_table_6 rfl rfl ?_
  refine r_iload_n C 1 dX11_table_7 rfl rfl ?_
  refine r_i2l C dX11_table_8 ?_
  obtain ⟨u3, eu3, h⟩ := bs h
  obtain ⟨q2, eq2, h⟩ := bs h
  refine r_callV C (As := [vJ (w32 x1)]) (b := a0) (rest := [vO a0]) (st1 := [vI q2.1, vO a0]) (v := some (vI q2.1)) (r := (RX11, TX11, 38)) (ci := 9) rfl eu3 (m_X11_mod C.tr eq2) (lw_V q1518 q1520 qs50 q133 q1521) rfl hdX11_mod rfl rfl (Nat.le_of_ble_eq_true rfl) ⟨by decide, by decide⟩ dX11_table_9 rfl ?_
  refine r_aload_n C 0 dX11_table_12 rfl rfl ?_
  refine r_iload_n C 2 dX11_table_13 rfl rfl ?_
  refine r_i2l C dX11_table_14 ?_
  obtain ⟨u5, eu5, h⟩ := bs h
  obtain ⟨q4, eq4, h⟩ := bs h
  refine r_callV C (As := [vJ (w32 x2)]) (b := a0) (rest := [vI q2.1, vO a0]) (st1 := [vI q4.1, vI q2.1, vO a0]) (v := some (vI q4.1)) (r := (RX11, TX11, 38)) (ci := 9) rfl eu5 (m_X11_mod C.tr eq4) (lw_V q1518 q1520 qs50 q133 q1521) rfl hdX11_mod rfl rfl (Nat.le_of_ble_eq_true rfl) ⟨by decide, by decide⟩ dX11_table_15 rfl ?_
  refine r_aload_n C 0 dX11_table_18 rfl rfl ?_
  refine r_iload_n C 3 dX11_table_19 rfl rfl ?_
  refine r_i2l C dX11_table_20 ?_
  obtain ⟨u7, eu7, h⟩ := bs h
  obtain ⟨q6, eq6, h⟩ := bs h
  refine r_callV C (As := [vJ (w32 x3)]) (b := a0) (rest := [vI q4.1, vI q2.1, vO a0]) (st1 := [vI q6.1, vI q4.1, vI q2.1, vO a0]) (v := some (vI q6.1)) (r := (RX11, TX11, 38)) (ci := 9) rfl eu7 (m_X11_mod C.tr eq6) (lw_V q1518 q1520 qs50 q133 q1521) rfl hdX11_mod rfl rfl (Nat.le_of_ble_eq_true rfl) ⟨by decide, by decide⟩ dX11_table_21 rfl ?_
  refine r_aload_n C 0 dX11_table_24 rfl rfl ?_
  refine r_iload C 4 dX11_table_25 rfl ?_
  refine r_i2l C dX11_table_27 ?_
  obtain ⟨u9, eu9, h⟩ := bs h
  obtain ⟨q8, eq8, h⟩ := bs h
  refine r_callV C (As := [vJ (w32 x4)]) (b := a0) (rest := [vI q6.1, vI q4.1, vI q2.1, vO a0]) (st1 := [vI q8.1, vI q6.1, vI q4.1, vI q2.1, vO a0]) (v := some (vI q8.1)) (r := (RX11, TX11, 38)) (ci := 9) rfl eu9 (m_X11_mod C.tr eq8) (lw_V q1518 q1520 qs50 q133 q1521) rfl hdX11_mod rfl rfl (Nat.le_of_ble_eq_true rfl) ⟨by decide, by decide⟩ dX11_table_28 rfl ?_
  obtain ⟨u11, eu11, h⟩ := bs h
  obtain ⟨q10, eq10, h⟩ := bs h
  refine r_callV C (As := [vI q2.1, vI q4.1, vI q6.1, vI q8.1]) (b := a0) (rest := []) (st1 := []) (v := none) (r := (RX11, TX11, 38)) (ci := 9) rfl eu11 (m_X11_takesTable C.tr eq10) (lw_V q1533 q1535 qs52 q133 q1536) rfl hdX11_takesTable rfl rfl (Nat.le_of_ble_eq_true rfl) ⟨by decide, by decide⟩ dX11_table_31 rfl ?_
  refine r_aload_n C 0 dX11_table_34 rfl rfl ?_
  refine r_aload_n C 0 dX11_table_35 rfl rfl ?_
  obtain ⟨u13, eu13, h⟩ := bs h
  obtain ⟨q12, eq12, h⟩ := bs h
  refine r_callV C (As := []) (b := a0) (rest := [vO a0]) (st1 := [vI q12.1, vO a0]) (v := some (vI q12.1)) (r := (RX11, TX11, 38)) (ci := 9) rfl eu13 (m_X11_detNow C.tr eq12) (lw_V q1537 q1539 qs53 q133 q1540) rfl hdX11_detNow rfl rfl (Nat.le_of_ble_eq_true rfl) ⟨by decide, by decide⟩ dX11_table_36 rfl ?_
  refine r_if_ne C dX11_table_39 (tgt := 46) (by decide) (fun c14 => ?_) (fun c14 => ?_)
  · have h := ie_ h c14
    refine r_iconst C dX11_table_46 ?_
    refine r_sub [0] rfl ?_
    exact w_X11_table_b47 (fin := fin) C h hK
  · have h := it_ h c14
    refine r_iconst C dX11_table_42 ?_
    refine r_goto C dX11_table_43 (tgt := 47) (by decide) ?_
    refine r_sub [0] rfl ?_
    exact w_X11_table_b47 (fin := fin) C h hK
theorem hdX11_table : zhd yX11_table 4 := by decide +kernel
theorem m_X11_table {l : Launch} {D : va_G} {b0 : Nat} (hl : l.stackTraces = false) {a0 : Nat} {x1 : Int} {x2 : Int} {x3 : Int} {x4 : Int} {μ : Me} {w : Int × Me} (h : s_X11_table a0 x1 x2 x3 x4 μ = some w) : MN l D b0 yX11_table (ws_ yX11_table cX11_table 5 (some .int)) 4 [vO a0, vI x1, vI x2, vI x3, vI x4] μ (some (vI w.1)) w.2 :=
  MN.of hl (by decide +kernel) (Nat.le_of_ble_eq_true rfl) (fun Z C _ _ => w_X11_table C h rfl)
noncomputable def s_X11_noTable (a0 : Nat) (x1 : Int) (μ : Me) : Option (Int × Me) :=
  (gR μ 9 a0 1).bind fun v1 =>
  (aI μ 101 v1 2).bind fun v2 =>
  (s_X11_in x1 0 (v2 - 1) μ).bind fun q3 =>
  (if w32 q3.1 = 0 then
  some (1, q3.2)
  else
  some (0, q3.2))
theorem w_X11_noTable {Z : Zt} {fin : Int × Me} {w : Int × Me} (C : CX Z yX11_noTable cX11_noTable (some .boolean) 2 2) {a0 : Nat} {x1 : Int} {μ : Me} (h : s_X11_noTable a0 x1 μ = some w) (hK : w = fin) : WL Z (QN Z (some (vI fin.1)) fin.2) μ 0 [(0, vO a0), (1, vI x1)] [] := by
  unfold s_X11_noTable at h
  refine r_iload_n C 1 dX11_noTable_0 rfl rfl ?_
  refine r_iconst C dX11_noTable_1 ?_
  refine r_aload_n C 0 dX11_noTable_2 rfl rfl ?_
  obtain ⟨v1, ev1, h⟩ := bs h
  refine r_getR C (c := 9) (r := (RX11, TX11, 38)) rfl 1 (by decide) rfl ev1 q1314 dX11_noTable_3 ?_
  refine r_iconst C dX11_noTable_6 ?_
  obtain ⟨v2, ev2, h⟩ := bs h
  refine r_iald C ev2 dX11_noTable_7 ?_
  refine r_iconst C dX11_noTable_8 ?_
  refine r_isub C dX11_noTable_9 ?_
  obtain ⟨q3, eq3, h⟩ := bs h
  refine r_callS C (As := [vI x1, vI 0, vI (v2 - 1)]) (rest := []) (st1 := [vI q3.1]) (v := some (vI q3.1)) (m_X11_in C.tr eq3) (lw_S q1512 q1513 q133 q1514) hdX11_in rfl rfl (Nat.le_of_ble_eq_true rfl) ⟨by decide, by decide⟩ dX11_noTable_10 rfl ?_
  refine r_if_ne C dX11_noTable_13 (tgt := 20) (by decide) (fun c4 => ?_) (fun c4 => ?_)
  · have h := ie_ h c4
    refine r_iconst C dX11_noTable_20 ?_
    cases h
    exact r_zret C (Or.inl rfl) hK dX11_noTable_21
  · have h := it_ h c4
    refine r_iconst C dX11_noTable_16 ?_
    refine r_goto C dX11_noTable_17 (tgt := 21) (by decide) ?_
    cases h
    exact r_zret C (Or.inr rfl) hK dX11_noTable_21
theorem hdX11_noTable : zhd yX11_noTable 1 := by decide +kernel
theorem m_X11_noTable {l : Launch} {D : va_G} {b0 : Nat} (hl : l.stackTraces = false) {a0 : Nat} {x1 : Int} {μ : Me} {w : Int × Me} (h : s_X11_noTable a0 x1 μ = some w) : MN l D b0 yX11_noTable (ws_ yX11_noTable cX11_noTable 2 (some .boolean)) 2 [vO a0, vI x1] μ (some (vI w.1)) w.2 :=
  MN.of hl (by decide +kernel) (Nat.le_of_ble_eq_true rfl) (fun Z C _ _ => w_X11_noTable C h rfl)
noncomputable def s_X11_ofTable (a0 : Nat) (x1 : Int) (x2 : Int) (μ : Me) : Option (Int × Me) :=
  (gR μ 9 a0 1).bind fun v1 =>
  (aI μ 101 v1 ((166 + (4 * x1)) + x2)).bind fun v2 =>
  some (v2, μ)
theorem w_X11_ofTable {Z : Zt} {fin : Int × Me} {w : Int × Me} (C : CX Z yX11_ofTable cX11_ofTable (some .int) 1 3) {a0 : Nat} {x1 : Int} {x2 : Int} {μ : Me} (h : s_X11_ofTable a0 x1 x2 μ = some w) (hK : w = fin) : WL Z (QN Z (some (vI fin.1)) fin.2) μ 0 [(0, vO a0), (1, vI x1), (2, vI x2)] [] := by
  unfold s_X11_ofTable at h
  refine r_aload_n C 0 dX11_ofTable_0 rfl rfl ?_
  obtain ⟨v1, ev1, h⟩ := bs h
  refine r_getR C (c := 9) (r := (RX11, TX11, 38)) rfl 1 (by decide) rfl ev1 q1314 dX11_ofTable_1 ?_
  refine r_sipush C dX11_ofTable_4 (by decide) ?_
  refine r_iconst C dX11_ofTable_7 ?_
  refine r_iload_n C 1 dX11_ofTable_8 rfl rfl ?_
  refine r_imul C dX11_ofTable_9 ?_
  refine r_iadd C dX11_ofTable_10 ?_
  refine r_iload_n C 2 dX11_ofTable_11 rfl rfl ?_
  refine r_iadd C dX11_ofTable_12 ?_
  obtain ⟨v2, ev2, h⟩ := bs h
  refine r_iald C ev2 dX11_ofTable_13 ?_
  cases h
  exact r_iret C hK dX11_ofTable_14
theorem hdX11_ofTable : zhd yX11_ofTable 2 := by decide +kernel
theorem m_X11_ofTable {l : Launch} {D : va_G} {b0 : Nat} (hl : l.stackTraces = false) {a0 : Nat} {x1 : Int} {x2 : Int} {μ : Me} {w : Int × Me} (h : s_X11_ofTable a0 x1 x2 μ = some w) : MN l D b0 yX11_ofTable (ws_ yX11_ofTable cX11_ofTable 3 (some .int)) 1 [vO a0, vI x1, vI x2] μ (some (vI w.1)) w.2 :=
  MN.of hl (by decide +kernel) (Nat.le_of_ble_eq_true rfl) (fun Z C _ _ => w_X11_ofTable C h rfl)
noncomputable def s_X11_tables (a0 : Nat) (x1 : Int) (μ : Me) : Option (Me) :=
  (ck μ 9 a0).bind fun _ =>
  (s_X11_ofTable a0 x1 0 μ).bind fun q1 =>
  (ck q1.2 9 a0).bind fun _ =>
  (s_X11_ofTable a0 x1 1 q1.2).bind fun q3 =>
  (ck q3.2 9 a0).bind fun _ =>
  (s_X11_ofTable a0 x1 2 q3.2).bind fun q5 =>
  (ck q5.2 9 a0).bind fun _ =>
  (s_X11_ofTable a0 x1 3 q5.2).bind fun q7 =>
  (ck q7.2 9 a0).bind fun _ =>
  (s_X11_takesTable a0 q1.1 q3.1 q5.1 q7.1 q7.2).bind fun q9 =>
  some q9
theorem w_X11_tables {Z : Zt} {fin : Me} {w : Me} (C : CX Z yX11_tables cX11_tables none 2 2) {a0 : Nat} {x1 : Int} {μ : Me} (h : s_X11_tables a0 x1 μ = some w) (hK : w = fin) : WL Z (QN Z none fin) μ 0 [(0, vO a0), (1, vI x1)] [] := by
  unfold s_X11_tables at h
  refine r_aload_n C 0 dX11_tables_0 rfl rfl ?_
  refine r_aload_n C 0 dX11_tables_1 rfl rfl ?_
  refine r_iload_n C 1 dX11_tables_2 rfl rfl ?_
  refine r_iconst C dX11_tables_3 ?_
  obtain ⟨u2, eu2, h⟩ := bs h
  obtain ⟨q1, eq1, h⟩ := bs h
  refine r_callV C (As := [vI x1, vI 0]) (b := a0) (rest := [vO a0]) (st1 := [vI q1.1, vO a0]) (v := some (vI q1.1)) (r := (RX11, TX11, 38)) (ci := 9) rfl eu2 (m_X11_ofTable C.tr eq1) (lw_V q1565 q1567 qs59 q133 q1568) rfl hdX11_ofTable rfl rfl (Nat.le_of_ble_eq_true rfl) ⟨by decide, by decide⟩ dX11_tables_4 rfl ?_
  refine r_aload_n C 0 dX11_tables_7 rfl rfl ?_
  refine r_iload_n C 1 dX11_tables_8 rfl rfl ?_
  refine r_iconst C dX11_tables_9 ?_
  obtain ⟨u4, eu4, h⟩ := bs h
  obtain ⟨q3, eq3, h⟩ := bs h
  refine r_callV C (As := [vI x1, vI 1]) (b := a0) (rest := [vI q1.1, vO a0]) (st1 := [vI q3.1, vI q1.1, vO a0]) (v := some (vI q3.1)) (r := (RX11, TX11, 38)) (ci := 9) rfl eu4 (m_X11_ofTable C.tr eq3) (lw_V q1565 q1567 qs59 q133 q1568) rfl hdX11_ofTable rfl rfl (Nat.le_of_ble_eq_true rfl) ⟨by decide, by decide⟩ dX11_tables_10 rfl ?_
  refine r_aload_n C 0 dX11_tables_13 rfl rfl ?_
  refine r_iload_n C 1 dX11_tables_14 rfl rfl ?_
  refine r_iconst C dX11_tables_15 ?_
  obtain ⟨u6, eu6, h⟩ := bs h
  obtain ⟨q5, eq5, h⟩ := bs h
  refine r_callV C (As := [vI x1, vI 2]) (b := a0) (rest := [vI q3.1, vI q1.1, vO a0]) (st1 := [vI q5.1, vI q3.1, vI q1.1, vO a0]) (v := some (vI q5.1)) (r := (RX11, TX11, 38)) (ci := 9) rfl eu6 (m_X11_ofTable C.tr eq5) (lw_V q1565 q1567 qs59 q133 q1568) rfl hdX11_ofTable rfl rfl (Nat.le_of_ble_eq_true rfl) ⟨by decide, by decide⟩ dX11_tables_16 rfl ?_
  refine r_aload_n C 0 dX11_tables_19 rfl rfl ?_
  refine r_iload_n C 1 dX11_tables_20 rfl rfl ?_
  refine r_iconst C dX11_tables_21 ?_
  obtain ⟨u8, eu8, h⟩ := bs h
  obtain ⟨q7, eq7, h⟩ := bs h
  refine r_callV C (As := [vI x1, vI 3]) (b := a0) (rest := [vI q5.1, vI q3.1, vI q1.1, vO a0]) (st1 := [vI q7.1, vI q5.1, vI q3.1, vI q1.1, vO a0]) (v := some (vI q7.1)) (r := (RX11, TX11, 38)) (ci := 9) rfl eu8 (m_X11_ofTable C.tr eq7) (lw_V q1565 q1567 qs59 q133 q1568) rfl hdX11_ofTable rfl rfl (Nat.le_of_ble_eq_true rfl) ⟨by decide, by decide⟩ dX11_tables_22 rfl ?_
  obtain ⟨u10, eu10, h⟩ := bs h
  obtain ⟨q9, eq9, h⟩ := bs h
  refine r_callV C (As := [vI q1.1, vI q3.1, vI q5.1, vI q7.1]) (b := a0) (rest := []) (st1 := []) (v := none) (r := (RX11, TX11, 38)) (ci := 9) rfl eu10 (m_X11_takesTable C.tr eq9) (lw_V q1533 q1535 qs52 q133 q1536) rfl hdX11_takesTable rfl rfl (Nat.le_of_ble_eq_true rfl) ⟨by decide, by decide⟩ dX11_tables_25 rfl ?_
  cases h
  exact r_vret C hK dX11_tables_28
theorem hdX11_tables : zhd yX11_tables 1 := by decide +kernel
theorem m_X11_tables {l : Launch} {D : va_G} {b0 : Nat} (hl : l.stackTraces = false) {a0 : Nat} {x1 : Int} {μ : Me} {w : Me} (h : s_X11_tables a0 x1 μ = some w) : MN l D b0 yX11_tables (ws_ yX11_tables cX11_tables 2 none) 2 [vO a0, vI x1] μ none w :=
  MN.of hl (by decide +kernel) (Nat.le_of_ble_eq_true rfl) (fun Z C _ _ => w_X11_tables C h rfl)
noncomputable def s_X11_plus (a0 : Nat) (x1 : Int) (x2 : Int) (μ : Me) : Option (Int × Me) :=
  (ck μ 9 a0).bind fun _ =>
  (s_X11_p a0  μ).bind fun q1 =>
  (rmI (x1 + x2) q1.1).bind fun v3 =>
  some (v3, q1.2)
theorem w_X11_plus {Z : Zt} {fin : Int × Me} {w : Int × Me} (C : CX Z yX11_plus cX11_plus (some .int) 2 3) {a0 : Nat} {x1 : Int} {x2 : Int} {μ : Me} (h : s_X11_plus a0 x1 x2 μ = some w) (hK : w = fin) : WL Z (QN Z (some (vI fin.1)) fin.2) μ 0 [(0, vO a0), (1, vI x1), (2, vI x2)] [] := by
  unfold s_X11_plus at h
  refine r_iload_n C 1 dX11_plus_0 rfl rfl ?_
  refine r_iload_n C 2 dX11_plus_1 rfl rfl ?_
  refine r_iadd C dX11_plus_2 ?_
  refine r_aload_n C 0 dX11_plus_3 rfl rfl ?_
  obtain ⟨u2, eu2, h⟩ := bs h
  obtain ⟨q1, eq1, h⟩ := bs h
  refine r_callV C (As := []) (b := a0) (rest := [vI (x1 + x2)]) (st1 := [vI q1.1, vI (x1 + x2)]) (v := some (vI q1.1)) (r := (RX11, TX11, 38)) (ci := 9) rfl eu2 (m_X11_p C.tr eq1) (lw_V q1522 q1524 qs51 q133 q1525) rfl hdX11_p rfl rfl (Nat.le_of_ble_eq_true rfl) ⟨by decide, by decide⟩ dX11_plus_4 rfl ?_
  obtain ⟨v3, ev3, h⟩ := bs h
  refine r_irem C ev3 dX11_plus_7 ?_
  cases h
  exact r_iret C hK dX11_plus_8
theorem hdX11_plus : zhd yX11_plus 2 := by decide +kernel
theorem m_X11_plus {l : Launch} {D : va_G} {b0 : Nat} (hl : l.stackTraces = false) {a0 : Nat} {x1 : Int} {x2 : Int} {μ : Me} {w : Int × Me} (h : s_X11_plus a0 x1 x2 μ = some w) : MN l D b0 yX11_plus (ws_ yX11_plus cX11_plus 3 (some .int)) 2 [vO a0, vI x1, vI x2] μ (some (vI w.1)) w.2 :=
  MN.of hl (by decide +kernel) (Nat.le_of_ble_eq_true rfl) (fun Z C _ _ => w_X11_plus C h rfl)
noncomputable def s_X11_join_b51 (a0 : Nat) (x1 : Int) (x2 : Int) (t0 : Int) (t1 : Nat) (μ : Me) : Option (Int × Me) :=
  (ck μ 9 t1).bind fun _ =>
  (s_X11_throwsIf t1 t0 2 μ).bind fun q11 =>
  (if w32 q11.1 = 0 then
  (ck q11.2 9 a0).bind fun _ =>
  (s_X11_tables a0 x1 q11.2).bind fun q14 =>
  (gI q14 9 a0 6).bind fun v16 =>
  (ck q14 9 a0).bind fun _ =>
  (s_X11_ofTable a0 x2 0 q14).bind fun q17 =>
  (ck q17.2 9 a0).bind fun _ =>
  (s_X11_times a0 v16 q17.1 q17.2).bind fun q19 =>
  (gI q19.2 9 a0 7).bind fun v21 =>
  (ck q19.2 9 a0).bind fun _ =>
  (s_X11_ofTable a0 x2 2 q19.2).bind fun q22 =>
  (ck q22.2 9 a0).bind fun _ =>
  (s_X11_times a0 v21 q22.1 q22.2).bind fun q24 =>
  (ck q24.2 9 a0).bind fun _ =>
  (s_X11_plus a0 q19.1 q24.1 q24.2).bind fun q26 =>
  (gI q26.2 9 a0 6).bind fun v28 =>
  (ck q26.2 9 a0).bind fun _ =>
  (s_X11_ofTable a0 x2 1 q26.2).bind fun q29 =>
  (ck q29.2 9 a0).bind fun _ =>
  (s_X11_times a0 v28 q29.1 q29.2).bind fun q31 =>
  (gI q31.2 9 a0 7).bind fun v33 =>
  (ck q31.2 9 a0).bind fun _ =>
  (s_X11_ofTable a0 x2 3 q31.2).bind fun q34 =>
  (ck q34.2 9 a0).bind fun _ =>
  (s_X11_times a0 v33 q34.1 q34.2).bind fun q36 =>
  (ck q36.2 9 a0).bind fun _ =>
  (s_X11_plus a0 q31.1 q36.1 q36.2).bind fun q38 =>
  (gI q38.2 9 a0 8).bind fun v40 =>
  (ck q38.2 9 a0).bind fun _ =>
  (s_X11_ofTable a0 x2 0 q38.2).bind fun q41 =>
  (ck q41.2 9 a0).bind fun _ =>
  (s_X11_times a0 v40 q41.1 q41.2).bind fun q43 =>
  (gI q43.2 9 a0 9).bind fun v45 =>
  (ck q43.2 9 a0).bind fun _ =>
  (s_X11_ofTable a0 x2 2 q43.2).bind fun q46 =>
  (ck q46.2 9 a0).bind fun _ =>
  (s_X11_times a0 v45 q46.1 q46.2).bind fun q48 =>
  (ck q48.2 9 a0).bind fun _ =>
  (s_X11_plus a0 q43.1 q48.1 q48.2).bind fun q50 =>
  (gI q50.2 9 a0 8).bind fun v52 =>
  (ck q50.2 9 a0).bind fun _ =>
  (s_X11_ofTable a0 x2 1 q50.2).bind fun q53 =>
  (ck q53.2 9 a0).bind fun _ =>
  (s_X11_times a0 v52 q53.1 q53.2).bind fun q55 =>
  (gI q55.2 9 a0 9).bind fun v57 =>
  (ck q55.2 9 a0).bind fun _ =>
  (s_X11_ofTable a0 x2 3 q55.2).bind fun q58 =>
  (ck q58.2 9 a0).bind fun _ =>
  (s_X11_times a0 v57 q58.1 q58.2).bind fun q60 =>
  (ck q60.2 9 a0).bind fun _ =>
  (s_X11_plus a0 q55.1 q60.1 q60.2).bind fun q62 =>
  (ck q62.2 9 a0).bind fun _ =>
  (s_X11_takesTable a0 q26.1 q38.1 q50.1 q62.1 q62.2).bind fun q64 =>
  (ck q64 9 a0).bind fun _ =>
  (s_X11_lays a0  q64).bind fun q66 =>
  some (q66.1, q66.2)
  else
  some (0, q11.2))
theorem w_X11_join_b51 {Z : Zt} {fin : Int × Me} {w : (Int × Me)} (C : CX Z yX11_join cX11_join (some .int) 3 7) {a0 : Nat} {x1 : Int} {x2 : Int} {t0 : Int} {t1 : Nat} {μ : Me} (h : s_X11_join_b51 a0 x1 x2 t0 t1 μ = some w) (hK : (fun r : Int × Me => r = fin) w) : WL Z (QN Z (some (vI fin.1)) fin.2) μ 51 [(0, vO a0), (1, vI x1), (2, vI x2)] [vI t0, vO t1] := by
  unfold s_X11_join_b51 at h
  refine r_iconst C dX11_join_51 ?_
  obtain ⟨u12, eu12, h⟩ := bs h
  obtain ⟨q11, eq11, h⟩ := bs h
  refine r_callV C (As := [vI t0, vI 2]) (b := t1) (rest := []) (st1 := [vI q11.1]) (v := some (vI q11.1)) (r := (RX11, TX11, 38)) (ci := 9) rfl eu12 (m_X11_throwsIf C.tr eq11) (lw_V q1500 q1502 qs49 q133 q1503) rfl hdX11_throwsIf rfl rfl (Nat.le_of_ble_eq_true rfl) ⟨by decide, by decide⟩ dX11_join_52 rfl ?_
  refine r_if_eq C dX11_join_55 (tgt := 60) (by decide) (fun c13 => ?_) (fun c13 => ?_)
  · have h := it_ h c13
    refine r_aload_n C 0 dX11_join_60 rfl rfl ?_
    refine r_iload_n C 1 dX11_join_61 rfl rfl ?_
    obtain ⟨u15, eu15, h⟩ := bs h
    obtain ⟨q14, eq14, h⟩ := bs h
    refine r_callV C (As := [vI x1]) (b := a0) (rest := []) (st1 := []) (v := none) (r := (RX11, TX11, 38)) (ci := 9) rfl eu15 (m_X11_tables C.tr eq14) (lw_V q1561 q1563 qs58 q133 q1564) rfl hdX11_tables rfl rfl (Nat.le_of_ble_eq_true rfl) ⟨by decide, by decide⟩ dX11_join_62 rfl ?_
    refine r_aload_n C 0 dX11_join_65 rfl rfl ?_
    refine r_aload_n C 0 dX11_join_66 rfl rfl ?_
    refine r_aload_n C 0 dX11_join_67 rfl rfl ?_
    obtain ⟨v16, ev16, h⟩ := bs h
    refine r_getI C (c := 9) (r := (RX11, TX11, 38)) rfl 6 (by decide) rfl ev16 q1319 dX11_join_68 ?_
    refine r_aload_n C 0 dX11_join_71 rfl rfl ?_
    refine r_iload_n C 2 dX11_join_72 rfl rfl ?_
    refine r_iconst C dX11_join_73 ?_
    obtain ⟨u18, eu18, h⟩ := bs h
    obtain ⟨q17, eq17, h⟩ := bs h
    refine r_callV C (As := [vI x2, vI 0]) (b := a0) (rest := [vI v16, vO a0, vO a0]) (st1 := [vI q17.1, vI v16, vO a0, vO a0]) (v := some (vI q17.1)) (r := (RX11, TX11, 38)) (ci := 9) rfl eu18 (m_X11_ofTable C.tr eq17) (lw_V q1565 q1567 qs59 q133 q1568) rfl hdX11_ofTable rfl rfl (Nat.le_of_ble_eq_true rfl) ⟨by decide, by decide⟩ dX11_join_74 rfl ?_
    obtain ⟨u20, eu20, h⟩ := bs h
    obtain ⟨q19, eq19, h⟩ := bs h
    refine r_callV C (As := [vI v16, vI q17.1]) (b := a0) (rest := [vO a0]) (st1 := [vI q19.1, vO a0]) (v := some (vI q19.1)) (r := (RX11, TX11, 38)) (ci := 9) rfl eu20 (m_X11_times C.tr eq19) (lw_V q1541 q1543 qs54 q133 q1544) rfl hdX11_times rfl rfl (Nat.le_of_ble_eq_true rfl) ⟨by decide, by decide⟩ dX11_join_77 rfl ?_
    refine r_aload_n C 0 dX11_join_80 rfl rfl ?_
    refine r_aload_n C 0 dX11_join_81 rfl rfl ?_
    obtain ⟨v21, ev21, h⟩ := bs h
    refine r_getI C (c := 9) (r := (RX11, TX11, 38)) rfl 7 (by decide) rfl ev21 q1320 dX11_join_82 ?_
    refine r_aload_n C 0 dX11_join_85 rfl rfl ?_
    refine r_iload_n C 2 dX11_join_86 rfl rfl ?_
    refine r_iconst C dX11_join_87 ?_
    obtain ⟨u23, eu23, h⟩ := bs h
    obtain ⟨q22, eq22, h⟩ := bs h
    refine r_callV C (As := [vI x2, vI 2]) (b := a0) (rest := [vI v21, vO a0, vI q19.1, vO a0]) (st1 := [vI q22.1, vI v21, vO a0, vI q19.1, vO a0]) (v := some (vI q22.1)) (r := (RX11, TX11, 38)) (ci := 9) rfl eu23 (m_X11_ofTable C.tr eq22) (lw_V q1565 q1567 qs59 q133 q1568) rfl hdX11_ofTable rfl rfl (Nat.le_of_ble_eq_true rfl) ⟨by decide, by decide⟩ dX11_join_88 rfl ?_
    obtain ⟨u25, eu25, h⟩ := bs h
    obtain ⟨q24, eq24, h⟩ := bs h
    refine r_callV C (As := [vI v21, vI q22.1]) (b := a0) (rest := [vI q19.1, vO a0]) (st1 := [vI q24.1, vI q19.1, vO a0]) (v := some (vI q24.1)) (r := (RX11, TX11, 38)) (ci := 9) rfl eu25 (m_X11_times C.tr eq24) (lw_V q1541 q1543 qs54 q133 q1544) rfl hdX11_times rfl rfl (Nat.le_of_ble_eq_true rfl) ⟨by decide, by decide⟩ dX11_join_91 rfl ?_
    obtain ⟨u27, eu27, h⟩ := bs h
    obtain ⟨q26, eq26, h⟩ := bs h
    refine r_callV C (As := [vI q19.1, vI q24.1]) (b := a0) (rest := []) (st1 := [vI q26.1]) (v := some (vI q26.1)) (r := (RX11, TX11, 38)) (ci := 9) rfl eu27 (m_X11_plus C.tr eq26) (lw_V q1569 q1571 qs60 q133 q1572) rfl hdX11_plus rfl rfl (Nat.le_of_ble_eq_true rfl) ⟨by decide, by decide⟩ dX11_join_94 rfl ?_
    refine r_istore_n C [(3, vI q26.1), (0, vO a0), (1, vI x1), (2, vI x2)] dX11_join_97 rfl (by decide) rfl ?_
    refine r_aload_n C 1 dX11_join_98 rfl rfl ?_
    refine r_aload_n C 1 dX11_join_99 rfl rfl ?_
    refine r_aload_n C 1 dX11_join_100 rfl rfl ?_
    obtain ⟨v28, ev28, h⟩ := bs h
    refine r_getI C (c := 9) (r := (RX11, TX11, 38)) rfl 6 (by decide) rfl ev28 q1319 dX11_join_101 ?_
    refine r_aload_n C 1 dX11_join_104 rfl rfl ?_
    refine r_iload_n C 3 dX11_join_105 rfl rfl ?_
    refine r_iconst C dX11_join_106 ?_
    obtain ⟨u30, eu30, h⟩ := bs h
    obtain ⟨q29, eq29, h⟩ := bs h
    refine r_callV C (As := [vI x2, vI 1]) (b := a0) (rest := [vI v28, vO a0, vO a0]) (st1 := [vI q29.1, vI v28, vO a0, vO a0]) (v := some (vI q29.1)) (r := (RX11, TX11, 38)) (ci := 9) rfl eu30 (m_X11_ofTable C.tr eq29) (lw_V q1565 q1567 qs59 q133 q1568) rfl hdX11_ofTable rfl rfl (Nat.le_of_ble_eq_true rfl) ⟨by decide, by decide⟩ dX11_join_107 rfl ?_
    obtain ⟨u32, eu32, h⟩ := bs h
    obtain ⟨q31, eq31, h⟩ := bs h
    refine r_callV C (As := [vI v28, vI q29.1]) (b := a0) (rest := [vO a0]) (st1 := [vI q31.1, vO a0]) (v := some (vI q31.1)) (r := (RX11, TX11, 38)) (ci := 9) rfl eu32 (m_X11_times C.tr eq31) (lw_V q1541 q1543 qs54 q133 q1544) rfl hdX11_times rfl rfl (Nat.le_of_ble_eq_true rfl) ⟨by decide, by decide⟩ dX11_join_110 rfl ?_
    refine r_aload_n C 1 dX11_join_113 rfl rfl ?_
    refine r_aload_n C 1 dX11_join_114 rfl rfl ?_
    obtain ⟨v33, ev33, h⟩ := bs h
    refine r_getI C (c := 9) (r := (RX11, TX11, 38)) rfl 7 (by decide) rfl ev33 q1320 dX11_join_115 ?_
    refine r_aload_n C 1 dX11_join_118 rfl rfl ?_
    refine r_iload_n C 3 dX11_join_119 rfl rfl ?_
    refine r_iconst C dX11_join_120 ?_
    obtain ⟨u35, eu35, h⟩ := bs h
    obtain ⟨q34, eq34, h⟩ := bs h
    refine r_callV C (As := [vI x2, vI 3]) (b := a0) (rest := [vI v33, vO a0, vI q31.1, vO a0]) (st1 := [vI q34.1, vI v33, vO a0, vI q31.1, vO a0]) (v := some (vI q34.1)) (r := (RX11, TX11, 38)) (ci := 9) rfl eu35 (m_X11_ofTable C.tr eq34) (lw_V q1565 q1567 qs59 q133 q1568) rfl hdX11_ofTable rfl rfl (Nat.le_of_ble_eq_true rfl) ⟨by decide, by decide⟩ dX11_join_121 rfl ?_
    obtain ⟨u37, eu37, h⟩ := bs h
    obtain ⟨q36, eq36, h⟩ := bs h
    refine r_callV C (As := [vI v33, vI q34.1]) (b := a0) (rest := [vI q31.1, vO a0]) (st1 := [vI q36.1, vI q31.1, vO a0]) (v := some (vI q36.1)) (r := (RX11, TX11, 38)) (ci := 9) rfl eu37 (m_X11_times C.tr eq36) (lw_V q1541 q1543 qs54 q133 q1544) rfl hdX11_times rfl rfl (Nat.le_of_ble_eq_true rfl) ⟨by decide, by decide⟩ dX11_join_124 rfl ?_
    obtain ⟨u39, eu39, h⟩ := bs h
    obtain ⟨q38, eq38, h⟩ := bs h
    refine r_callV C (As := [vI q31.1, vI q36.1]) (b := a0) (rest := []) (st1 := [vI q38.1]) (v := some (vI q38.1)) (r := (RX11, TX11, 38)) (ci := 9) rfl eu39 (m_X11_plus C.tr eq38) (lw_V q1569 q1571 qs60 q133 q1572) rfl hdX11_plus rfl rfl (Nat.le_of_ble_eq_true rfl) ⟨by decide, by decide⟩ dX11_join_127 rfl ?_
    refine r_istore C [(4, vI q38.1), (3, vI q26.1), (0, vO a0), (1, vI x1), (2, vI x2)] dX11_join_130 (by decide) rfl ?_
    refine r_aload_n C 2 dX11_join_132 rfl rfl ?_
    refine r_aload_n C 2 dX11_join_133 rfl rfl ?_
    refine r_aload_n C 2 dX11_join_134 rfl rfl ?_
    obtain ⟨v40, ev40, h⟩ := bs h
    refine r_getI C (c := 9) (r := (RX11, TX11, 38)) rfl 8 (by decide) rfl ev40 q1321 dX11_join_135 ?_
    refine r_aload_n C 2 dX11_join_138 rfl rfl ?_
    refine r_iload_n C 4 dX11_join_139 rfl rfl ?_
    refine r_iconst C dX11_join_140 ?_
    obtain ⟨u42, eu42, h⟩ := bs h
    obtain ⟨q41, eq41, h⟩ := bs h
    refine r_callV C (As := [vI x2, vI 0]) (b := a0) (rest := [vI v40, vO a0, vO a0]) (st1 := [vI q41.1, vI v40, vO a0, vO a0]) (v := some (vI q41.1)) (r := (RX11, TX11, 38)) (ci := 9) rfl eu42 (m_X11_ofTable C.tr eq41) (lw_V q1565 q1567 qs59 q133 q1568) rfl hdX11_ofTable rfl rfl (Nat.le_of_ble_eq_true rfl) ⟨by decide, by decide⟩ dX11_join_141 rfl ?_
    obtain ⟨u44, eu44, h⟩ := bs h
    obtain ⟨q43, eq43, h⟩ := bs h
    refine r_callV C (As := [vI v40, vI q41.1]) (b := a0) (rest := [vO a0]) (st1 := [vI q43.1, vO a0]) (v := some (vI q43.1)) (r := (RX11, TX11, 38)) (ci := 9) rfl eu44 (m_X11_times C.tr eq43) (lw_V q1541 q1543 qs54 q133 q1544) rfl hdX11_times rfl rfl (Nat.le_of_ble_eq_true rfl) ⟨by decide, by decide⟩ dX11_join_144 rfl ?_
    refine r_aload_n C 2 dX11_join_147 rfl rfl ?_
    refine r_aload_n C 2 dX11_join_148 rfl rfl ?_
    obtain ⟨v45, ev45, h⟩ := bs h
    refine r_getI C (c := 9) (r := (RX11, TX11, 38)) rfl 9 (by decide) rfl ev45 q1322 dX11_join_149 ?_
    refine r_aload_n C 2 dX11_join_152 rfl rfl ?_
    refine r_iload_n C 4 dX11_join_153 rfl rfl ?_
    refine r_iconst C dX11_join_154 ?_
    obtain ⟨u47, eu47, h⟩ := bs h
    obtain ⟨q46, eq46, h⟩ := bs h
    refine r_callV C (As := [vI x2, vI 2]) (b := a0) (rest := [vI v45, vO a0, vI q43.1, vO a0]) (st1 := [vI q46.1, vI v45, vO a0, vI q43.1, vO a0]) (v := some (vI q46.1)) (r := (RX11, TX11, 38)) (ci := 9) rfl eu47 (m_X11_ofTable C.tr eq46) (lw_V q1565 q1567 qs59 q133 q1568) rfl hdX11_ofTable rfl rfl (Nat.le_of_ble_eq_true rfl) ⟨by decide, by decide⟩ dX11_join_155 rfl ?_
    obtain ⟨u49, eu49, h⟩ := bs h
    obtain ⟨q48, eq48, h⟩ := bs h
    refine r_callV C (As := [vI v45, vI q46.1]) (b := a0) (rest := [vI q43.1, vO a0]) (st1 := [vI q48.1, vI q43.1, vO a0]) (v := some (vI q48.1)) (r := (RX11, TX11, 38)) (ci := 9) rfl eu49 (m_X11_times C.tr eq48) (lw_V q1541 q1543 qs54 q133 q1544) rfl hdX11_times rfl rfl (Nat.le_of_ble_eq_true rfl) ⟨by decide, by decide⟩ dX11_join_158 rfl ?_
    obtain ⟨u51, eu51, h⟩ := bs h
    obtain ⟨q50, eq50, h⟩ := bs h
    refine r_callV C (As := [vI q43.1, vI q48.1]) (b := a0) (rest := []) (st1 := [vI q50.1]) (v := some (vI q50.1)) (r := (RX11, TX11, 38)) (ci := 9) rfl eu51 (m_X11_plus C.tr eq50) (lw_V q1569 q1571 qs60 q133 q1572) rfl hdX11_plus rfl rfl (Nat.le_of_ble_eq_true rfl) ⟨by decide, by decide⟩ dX11_join_161 rfl ?_
    refine r_istore C [(5, vI q50.1), (4, vI q38.1), (3, vI q26.1), (0, vO a0), (1, vI x1), (2, vI x2)] dX11_join_164 (by decide) rfl ?_
    refine r_aload_n C 3 dX11_join_166 rfl rfl ?_
    refine r_aload_n C 3 dX11_join_167 rfl rfl ?_
    refine r_aload_n C 3 dX11_join_168 rfl rfl ?_
    obtain ⟨v52, ev52, h⟩ := bs h
    refine r_getI C (c := 9) (r := (RX11, TX11, 38)) rfl 8 (by decide) rfl ev52 q1321 dX11_join_169 ?_
    refine r_aload_n C 3 dX11_join_172 rfl rfl ?_
    refine r_iload_n C 5 dX11_join_173 rfl rfl ?_
    refine r_iconst C dX11_join_174 ?_
    obtain ⟨u54, eu54, h⟩ := bs h
    obtain ⟨q53, eq53, h⟩ := bs h
    refine r_callV C (As := [vI x2, vI 1]) (b := a0) (rest := [vI v52, vO a0, vO a0]) (st1 := [vI q53.1, vI v52, vO a0, vO a0]) (v := some (vI q53.1)) (r := (RX11, TX11, 38)) (ci := 9) rfl eu54 (m_X11_ofTable C.tr eq53) (lw_V q1565 q1567 qs59 q133 q1568) rfl hdX11_ofTable rfl rfl (Nat.le_of_ble_eq_true rfl) ⟨by decide, by decide⟩ dX11_join_175 rfl ?_
    obtain ⟨u56, eu56, h⟩ := bs h
    obtain ⟨q55, eq55, h⟩ := bs h
    refine r_callV C (As := [vI v52, vI q53.1]) (b := a0) (rest := [vO a0]) (st1 := [vI q55.1, vO a0]) (v := some (vI q55.1)) (r := (RX11, TX11, 38)) (ci := 9) rfl eu56 (m_X11_times C.tr eq55) (lw_V q1541 q1543 qs54 q133 q1544) rfl hdX11_times rfl rfl (Nat.le_of_ble_eq_true rfl) ⟨by decide, by decide⟩ dX11_join_178 rfl ?_
    refine r_aload_n C 3 dX11_join_181 rfl rfl ?_
    refine r_aload_n C 3 dX11_join_182 rfl rfl ?_
    obtain ⟨v57, ev57, h⟩ := bs h
    refine r_getI C (c := 9) (r := (RX11, TX11, 38)) rfl 9 (by decide) rfl ev57 q1322 dX11_join_183 ?_
    refine r_aload_n C 3 dX11_join_186 rfl rfl ?_
    refine r_iload_n C 5 dX11_join_187 rfl rfl ?_
    refine r_iconst C dX11_join_188 ?_
    obtain ⟨u59, eu59, h⟩ := bs h
    obtain ⟨q58, eq58, h⟩ := bs h
    refine r_callV C (As := [vI x2, vI 3]) (b := a0) (rest := [vI v57, vO a0, vI q55.1, vO a0]) (st1 := [vI q58.1, vI v57, vO a0, vI q55.1, vO a0]) (v := some (vI q58.1)) (r := (RX11, TX11, 38)) (ci := 9) rfl eu59 (m_X11_ofTable C.tr eq58) (lw_V q1565 q1567 qs59 q133 q1568) rfl hdX11_ofTable rfl rfl (Nat.le_of_ble_eq_true rfl) ⟨by decide, by decide⟩ dX11_join_189 rfl ?_
    obtain ⟨u61, eu61, h⟩ := bs h
    obtain ⟨q60, eq60, h⟩ := bs h
    refine r_callV C (As := [vI v57, vI q58.1]) (b := a0) (rest := [vI q55.1, vO a0]) (st1 := [vI q60.1, vI q55.1, vO a0]) (v := some (vI q60.1)) (r := (RX11, TX11, 38)) (ci := 9) rfl eu61 (m_X11_times C.tr eq60) (lw_V q1541 q1543 qs54 q133 q1544) rfl hdX11_times rfl rfl (Nat.le_of_ble_eq_true rfl) ⟨by decide, by decide⟩ dX11_join_192 rfl ?_
    obtain ⟨u63, eu63, h⟩ := bs h
    obtain ⟨q62, eq62, h⟩ := bs h
    refine r_callV C (As := [vI q55.1, vI q60.1]) (b := a0) (rest := []) (st1 := [vI q62.1]) (v := some (vI q62.1)) (r := (RX11, TX11, 38)) (ci := 9) rfl eu63 (m_X11_plus C.tr eq62) (lw_V q1569 q1571 qs60 q133 q1572) rfl hdX11_plus rfl rfl (Nat.le_of_ble_eq_true rfl) ⟨by decide, by decide⟩ dX11_join_195 rfl ?_
    refine r_istore C [(6, vI q62.1), (5, vI q50.1), (4, vI q38.1), (3, vI q26.1), (0, vO a0), (1, vI x1), (2, vI x2)] dX11_join_198 (by decide) rfl ?_
    refine r_aload_n C 4 dX11_join_200 rfl rfl ?_
    refine r_iload_n C 3 dX11_join_201 rfl rfl ?_
    refine r_iload C 2 dX11_join_202 rfl ?_
    refine r_iload C 1 dX11_join_204 rfl ?_
    refine r_iload C 0 dX11_join_206 rfl ?_
    obtain ⟨u65, eu65, h⟩ := bs h
    obtain ⟨q64, eq64, h⟩ := bs h
    refine r_callV C (As := [vI q26.1, vI q38.1, vI q50.1, vI q62.1]) (b := a0) (rest := []) (st1 := []) (v := none) (r := (RX11, TX11, 38)) (ci := 9) rfl eu65 (m_X11_takesTable C.tr eq64) (lw_V q1533 q1535 qs52 q133 q1536) rfl hdX11_takesTable rfl rfl (Nat.le_of_ble_eq_true rfl) ⟨by decide, by decide⟩ dX11_join_208 rfl ?_
    refine r_aload_n C 4 dX11_join_211 rfl rfl ?_
    obtain ⟨u67, eu67, h⟩ := bs h
    obtain ⟨q66, eq66, h⟩ := bs h
    refine r_callV C (As := []) (b := a0) (rest := []) (st1 := [vI q66.1]) (v := some (vI q66.1)) (r := (RX11, TX11, 38)) (ci := 9) rfl eu67 (m_X11_lays C.tr eq66) (lw_V q1549 q1551 qs56 q133 q1552) rfl hdX11_lays rfl rfl (Nat.le_of_ble_eq_true rfl) ⟨by decide, by decide⟩ dX11_join_212 rfl ?_
    cases h
    exact r_iret C hK dX11_join_215
  · have h := ie_ h c13
    refine r_iconst C dX11_join_58 ?_
    cases h
    exact r_iret C hK dX11_join_59
noncomputable def s_X11_join_b27 (a0 : Nat) (x1 : Int) (x2 : Int) (t0 : Int) (t1 : Nat) (μ : Me) : Option (Int × Me) :=
  (ck μ 9 t1).bind fun _ =>
  (s_X11_throwsIf t1 t0 1 μ).bind fun q5 =>
  (if w32 q5.1 = 0 then
  (gR q5.2 9 a0 1).bind fun v8 =>
  (aI q5.2 101 v8 2).bind fun v9 =>
  (if w32 v9 = w32 8 then
  s_X11_join_b51 a0 x1 x2 1 a0 q5.2
  else
  s_X11_join_b51 a0 x1 x2 0 a0 q5.2)
  else
  some (0, q5.2))
theorem w_X11_join_b27 {Z : Zt} {fin : Int × Me} {w : (Int × Me)} (C : CX Z yX11_join cX11_join (some .int) 3 7) {a0 : Nat} {x1 : Int} {x2 : Int} {t0 : Int} {t1 : Nat} {μ : Me} (h : s_X11_join_b27 a0 x1 x2 t0 t1 μ = some w) (hK : (fun r : Int × Me => r = fin) w) : WL Z (QN Z (some (vI fin.1)) fin.2) μ 27 [(0, vO a0), (1, vI x1), (2, vI x2)] [vI t0, vO t1] := by
  unfold s_X11_join_b27 at h
  refine r_iconst C dX11_join_27 ?_
  obtain ⟨u6, eu6, h⟩ := bs h
  obtain ⟨q5, eq5, h⟩ := bs h
  refine r_callV C (As := [vI t0, vI 1]) (b := t1) (rest := []) (st1 := [vI q5.1]) (v := some (vI q5.1)) (r := (RX11, TX11, 38)) (ci := 9) rfl eu6 (m_X11_throwsIf C.tr eq5) (lw_V q1500 q1502 qs49 q133 q1503) rfl hdX11_throwsIf rfl rfl (Nat.le_of_ble_eq_true rfl) ⟨by decide, by decide⟩ dX11_join_28 rfl ?_
  refine r_if_ne C dX11_join_31 (tgt := 58) (by decide) (fun c7 => ?_) (fun c7 => ?_)
  · have h := ie_ h c7
    refine r_iconst C dX11_join_58 ?_
    cases h
    exact r_iret C hK dX11_join_59
  · have h := it_ h c7
    refine r_aload_n C 0 dX11_join_34 rfl rfl ?_
    refine r_aload_n C 0 dX11_join_35 rfl rfl ?_
    obtain ⟨v8, ev8, h⟩ := bs h
    refine r_getR C (c := 9) (r := (RX11, TX11, 38)) rfl 1 (by decide) rfl ev8 q1314 dX11_join_36 ?_
    refine r_iconst C dX11_join_39 ?_
    obtain ⟨v9, ev9, h⟩ := bs h
    refine r_iald C ev9 dX11_join_40 ?_
    refine r_bipush C dX11_join_41 (by decide) ?_
    refine r_icmp_ne C dX11_join_43 (tgt := 50) (by decide) (fun c10 => ?_) (fun c10 => ?_)
    · have h := ie_ h c10
      refine r_iconst C dX11_join_50 ?_
      exact w_X11_join_b51 (fin := fin) C h hK
    · have h := it_ h c10
      refine r_iconst C dX11_join_46 ?_
      refine r_goto C dX11_join_47 (tgt := 51) (by decide) ?_
      exact w_X11_join_b51 (fin := fin) C h hK
noncomputable def s_X11_join_b22 (a0 : Nat) (x1 : Int) (x2 : Int) (t0 : Nat) (μ : Me) : Option (Int × Me) :=
  s_X11_join_b27 a0 x1 x2 1 t0 μ
theorem w_X11_join_b22 {Z : Zt} {fin : Int × Me} {w : (Int × Me)} (C : CX Z yX11_join cX11_join (some .int) 3 7) {a0 : Nat} {x1 : Int} {x2 : Int} {t0 : Nat} {μ : Me} (h : s_X11_join_b22 a0 x1 x2 t0 μ = some w) (hK : (fun r : Int × Me => r = fin) w) : WL Z (QN Z (some (vI fin.1)) fin.2) μ 22 [(0, vO a0), (1, vI x1), (2, vI x2)] [vO t0] := by
  unfold s_X11_join_b22 at h
  refine r_iconst C dX11_join_22 ?_
  refine r_goto C dX11_join_23 (tgt := 27) (by decide) ?_
  exact w_X11_join_b27 (fin := fin) C h hK
noncomputable def s_X11_join (a0 : Nat) (x1 : Int) (x2 : Int) (μ : Me) : Option (Int × Me) :=
  (pI μ 9 a0 0 0).bind fun m1 =>
  (ck m1 9 a0).bind fun _ =>
  (s_X11_noTable a0 x1 m1).bind fun q2 =>
  (if w32 q2.1 = 0 then
  (ck q2.2 9 a0).bind fun _ =>
  (s_X11_noTable a0 x2 q2.2).bind fun q68 =>
  (if w32 q68.1 = 0 then
  s_X11_join_b27 a0 x1 x2 0 a0 q68.2
  else
  s_X11_join_b22 a0 x1 x2 a0 q68.2)
  else
  s_X11_join_b22 a0 x1 x2 a0 q2.2)
theorem w_X11_join {Z : Zt} {fin : Int × Me} {w : Int × Me} (C : CX Z yX11_join cX11_join (some .int) 3 7) {a0 : Nat} {x1 : Int} {x2 : Int} {μ : Me} (h : s_X11_join a0 x1 x2 μ = some w) (hK : w = fin) : WL Z (QN Z (some (vI fin.1)) fin.2) μ 0 [(0, vO a0), (1, vI x1), (2, vI x2)] [] := by
  unfold s_X11_join at h
  refine r_aload_n C 0 dX11_join_0 rfl rfl ?_
  refine r_iconst C dX11_join_1 ?_
  obtain ⟨m1, em1, h⟩ := bs h
  refine r_putI C (c := 9) (r := (RX11, TX11, 38)) rfl 0 (by decide) rfl ⟨rfl, rfl⟩ rfl em1 q1313 dX11_join_2 ?_
  refine r_aload_n C 0 dX11_join_5 rfl rfl ?_
  refine r_aload_n C 0 dX11_join_6 rfl rfl ?_
  refine r_iload_n C 1 dX11_join_7 rfl rfl ?_
  obtain ⟨u3, eu3, h⟩ := bs h
  obtain ⟨q2, eq2, h⟩ := bs h
  refine r_callV C (As := [vI x1]) (b := a0) (rest := [vO a0]) (st1 := [vI q2.1, vO a0]) (v := some (vI q2.1)) (r := (RX11, TX11, 38)) (ci := 9) rfl eu3 (m_X11_noTable C.tr eq2) (lw_V q1557 q1559 qs57 q133 q1560) rfl hdX11_noTable rfl rfl (Nat.le_of_ble_eq_true rfl) ⟨by decide, by decide⟩ dX11_join_8 rfl ?_
  refine r_if_ne C dX11_join_11 (tgt := 22) (by decide) (fun c4 => ?_) (fun c4 => ?_)
  · have h := ie_ h c4
    exact w_X11_join_b22 (fin := fin) C h hK
  · have h := it_ h c4
    refine r_aload_n C 0 dX11_join_14 rfl rfl ?_
    refine r_iload_n C 2 dX11_join_15 rfl rfl ?_
    obtain ⟨u69, eu69, h⟩ := bs h
    obtain ⟨q68, eq68, h⟩ := bs h
    refine r_callV C (As := [vI x2]) (b := a0) (rest := [vO a0]) (st1 := [vI q68.1, vO a0]) (v := some (vI q68.1)) (r := (RX11, TX11, 38)) (ci := 9) rfl eu69 (m_X11_noTable C.tr eq68) (lw_V q1557 q1559 qs57 q133 q1560) rfl hdX11_noTable rfl rfl (Nat.le_of_ble_eq_true rfl) ⟨by decide, by decide⟩ dX11_join_16 rfl ?_
    refine r_if_eq C dX11_join_19 (tgt := 26) (by decide) (fun c70 => ?_) (fun c70 => ?_)
    · have h := it_ h c70
      refine r_iconst C dX11_join_26 ?_
      exact w_X11_join_b27 (fin := fin) C h hK
    · have h := ie_ h c70
      exact w_X11_join_b22 (fin := fin) C h hK
theorem hdX11_join : zhd yX11_join 2 := by decide +kernel
theorem m_X11_join {l : Launch} {D : va_G} {b0 : Nat} (hl : l.stackTraces = false) {a0 : Nat} {x1 : Int} {x2 : Int} {μ : Me} {w : Int × Me} (h : s_X11_join a0 x1 x2 μ = some w) : MN l D b0 yX11_join (ws_ yX11_join cX11_join 7 (some .int)) 3 [vO a0, vI x1, vI x2] μ (some (vI w.1)) w.2 :=
  MN.of hl (by decide +kernel) (Nat.le_of_ble_eq_true rfl) (fun Z C _ _ => w_X11_join C h rfl)
noncomputable def s_X11_power_l5_st (a0 : Nat) (x1 : Int) (x2 : Int) (x3 : Int) (x4 : Int) (μ : Me) : Option ((Int × Int × Me) ⊕ (Int × Me)) :=
  (if w32 x2 ≤ w32 x4 then
  some (.inr (x3, μ))
  else
  (ck μ 9 a0).bind fun _ =>
  (s_X11_times a0 x3 x1 μ).bind fun q2 =>
  some (.inl (q2.1, (x4 + 1), q2.2)))
theorem w_X11_power_l5_st {Z : Zt} {fin : Int × Me} {w : ((Int × Int × Me) ⊕ (Int × Me))} (C : CX Z yX11_power cX11_power (some .int) 3 5) {a0 : Nat} {x1 : Int} {x2 : Int} {x3 : Int} {x4 : Int} {μ : Me} (h : s_X11_power_l5_st a0 x1 x2 x3 x4 μ = some w) (hK : (Sum.elim (fun s : Int × Int × Me => WL Z (QN Z (some (vI fin.1)) fin.2) s.2.2 5 [(0, vO a0), (1, vI x1), (2, vI x2), (3, vI s.1), (4, vI s.2.1)] []) (fun r : Int × Me => r = fin)) w) : WL Z (QN Z (some (vI fin.1)) fin.2) μ 5 [(0, vO a0), (1, vI x1), (2, vI x2), (3, vI x3), (4, vI x4)] [] := by
  unfold s_X11_power_l5_st at h
  refine r_iload C 4 dX11_power_5 rfl ?_
  refine r_iload_n C 2 dX11_power_7 rfl rfl ?_
  refine r_icmp_ge C dX11_power_8 (tgt := 24) (by decide) (fun c1 => ?_) (fun c1 => ?_)
  · have h := it_ h c1
    refine r_iload_n C 3 dX11_power_24 rfl rfl ?_
    cases h
    exact r_iret C hK dX11_power_25
  · have h := ie_ h c1
    refine r_aload_n C 0 dX11_power_11 rfl rfl ?_
    refine r_iload_n C 3 dX11_power_12 rfl rfl ?_
    refine r_iload_n C 1 dX11_power_13 rfl rfl ?_
    obtain ⟨u3, eu3, h⟩ := bs h
    obtain ⟨q2, eq2, h⟩ := bs h
    refine r_callV C (As := [vI x3, vI x1]) (b := a0) (rest := []) (st1 := [vI q2.1]) (v := some (vI q2.1)) (r := (RX11, TX11, 38)) (ci := 9) rfl eu3 (m_X11_times C.tr eq2) (lw_V q1541 q1543 qs54 q133 q1544) rfl hdX11_times rfl rfl (Nat.le_of_ble_eq_true rfl) ⟨by decide, by decide⟩ dX11_power_14 rfl ?_
    refine r_istore_n C [(3, vI q2.1), (0, vO a0), (1, vI x1), (2, vI x2), (4, vI x4)] dX11_power_17 rfl (by decide) rfl ?_
    refine r_iinc C 4 [(4, vI (x4 + 1)), (3, vI q2.1), (0, vO a0), (1, vI x1), (2, vI x2)] dX11_power_18 rfl (by decide) rfl ?_
    refine r_goto C dX11_power_21 (tgt := 5) (by decide) ?_
    cases h
    refine r_sub [2, 3, 4, 1, 0] rfl ?_
    exact hK
noncomputable def s_X11_power_l5 (a0 : Nat) (x1 : Int) (x2 : Int) (x3 : Int) (x4 : Int) (μ : Me) : Option (Int × Me) :=
  whileO (fun s : Int × Int × Me => s_X11_power_l5_st a0 x1 x2 s.1 s.2.1 s.2.2) (x3, x4, μ)
theorem e_X11_power_l5 (a0 : Nat) (x1 : Int) (x2 : Int) (x3 : Int) (x4 : Int) (μ : Me) : s_X11_power_l5 a0 x1 x2 x3 x4 μ = (s_X11_power_l5_st a0 x1 x2 x3 x4 μ).bind fun x => x.elim (fun s : Int × Int × Me => s_X11_power_l5 a0 x1 x2 s.1 s.2.1 s.2.2) some := whileO_eq _ _
theorem w_X11_power_l5 {Z : Zt} {fin : Int × Me} {w : (Int × Me)} (C : CX Z yX11_power cX11_power (some .int) 3 5) {a0 : Nat} {x1 : Int} {x2 : Int} {x3 : Int} {x4 : Int} {μ : Me} (h : s_X11_power_l5 a0 x1 x2 x3 x4 μ = some w) (hK : (fun r : Int × Me => r = fin) w) : WL Z (QN Z (some (vI fin.1)) fin.2) μ 5 [(0, vO a0), (1, vI x1), (2, vI x2), (3, vI x3), (4, vI x4)] [] := by
  refine whileO_walk (w := w) (fun s : Int × Int × Me => WL Z (QN Z (some (vI fin.1)) fin.2) s.2.2 5 [(0, vO a0), (1, vI x1), (2, vI x2), (3, vI s.1), (4, vI s.2.1)] []) (fun s v h2 hi hr => ?_) (x3, x4, μ) h
  refine w_X11_power_l5_st (fin := fin) C h2 ?_
  cases v with
  | inl s2 => exact hi s2 rfl
  | inr r => have e := hr r rfl; subst e; exact hK
noncomputable def s_X11_power (a0 : Nat) (x1 : Int) (x2 : Int) (μ : Me) : Option (Int × Me) :=
  s_X11_power_l5 a0 x1 x2 1 0 μ
theorem w_X11_power {Z : Zt} {fin : Int × Me} {w : Int × Me} (C : CX Z yX11_power cX11_power (some .int) 3 5) {a0 : Nat} {x1 : Int} {x2 : Int} {μ : Me} (h : s_X11_power a0 x1 x2 μ = some w) (hK : w = fin) : WL Z (QN Z (some (vI fin.1)) fin.2) μ 0 [(0, vO a0), (1, vI x1), (2, vI x2)] [] := by
  unfold s_X11_power at h
  refine r_iconst C dX11_power_0 ?_
  refine r_istore_n C [(3, vI 1), (0, vO a0), (1, vI x1), (2, vI x2)] dX11_power_1 rfl (by decide) rfl ?_
  refine r_iconst C dX11_power_2 ?_
  refine r_istore C [(4, vI 0), (3, vI 1), (0, vO a0), (1, vI x1), (2, vI x2)] dX11_power_3 (by decide) rfl ?_
  refine r_sub [2, 3, 4, 1, 0] rfl ?_
  exact w_X11_power_l5 (fin := fin) C h hK
theorem hdX11_power : zhd yX11_power 2 := by decide +kernel
theorem m_X11_power {l : Launch} {D : va_G} {b0 : Nat} (hl : l.stackTraces = false) {a0 : Nat} {x1 : Int} {x2 : Int} {μ : Me} {w : Int × Me} (h : s_X11_power a0 x1 x2 μ = some w) : MN l D b0 yX11_power (ws_ yX11_power cX11_power 5 (some .int)) 3 [vO a0, vI x1, vI x2] μ (some (vI w.1)) w.2 :=
  MN.of hl (by decide +kernel) (Nat.le_of_ble_eq_true rfl) (fun Z C _ _ => w_X11_power C h rfl)
noncomputable def s_X11_inverse (a0 : Nat) (x1 : Int) (μ : Me) : Option (Int × Me) :=
  (ck μ 9 a0).bind fun _ =>
  (s_X11_p a0  μ).bind fun q1 =>
  (ck q1.2 9 a0).bind fun _ =>
  (s_X11_power a0 x1 (q1.1 - 2) q1.2).bind fun q3 =>
  some (q3.1, q3.2)
theorem w_X11_inverse {Z : Zt} {fin : Int × Me} {w : Int × Me} (C : CX Z yX11_inverse cX11_inverse (some .int) 4 2) {a0 : Nat} {x1 : Int} {μ : Me} (h : s_X11_inverse a0 x1 μ = some w) (hK : w = fin) : WL Z (QN Z (some (vI fin.1)) fin.2) μ 0 [(0, vO a0), (1, vI x1)] [] := by
  unfold s_X11_inverse at h
  refine r_aload_n C 0 dX11_inverse_0 rfl rfl ?_
  refine r_iload_n C 1 dX11_inverse_1 rfl rfl ?_
  refine r_aload_n C 0 dX11_inverse_2 rfl rfl ?_
  obtain ⟨u2, eu2, h⟩ := bs h
  obtain ⟨q1, eq1, h⟩ := bs h
  refine r_callV C (As := []) (b := a0) (rest := [vI x1, vO a0]) (st1 := [vI q1.1, vI x1, vO a0]) (v := some (vI q1.1)) (r := (RX11, TX11, 38)) (ci := 9) rfl eu2 (m_X11_p C.tr eq1) (lw_V q1522 q1524 qs51 q133 q1525) rfl hdX11_p rfl rfl (Nat.le_of_ble_eq_true rfl) ⟨by decide, by decide⟩ dX11_inverse_3 rfl ?_
  refine r_iconst C dX11_inverse_6 ?_
  refine r_isub C dX11_inverse_7 ?_
  obtain ⟨u4, eu4, h⟩ := bs h
  obtain ⟨q3, eq3, h⟩ := bs h
  refine r_callV C (As := [vI x1, vI (q1.1 - 2)]) (b := a0) (rest := []) (st1 := [vI q3.1]) (v := some (vI q3.1)) (r := (RX11, TX11, 38)) (ci := 9) rfl eu4 (m_X11_power C.tr eq3) (lw_V q1585 q1587 qs63 q133 q1588) rfl hdX11_power rfl rfl (Nat.le_of_ble_eq_true rfl) ⟨by decide, by decide⟩ dX11_inverse_8 rfl ?_
  cases h
  exact r_iret C hK dX11_inverse_11
theorem hdX11_inverse : zhd yX11_inverse 1 := by decide +kernel
theorem m_X11_inverse {l : Launch} {D : va_G} {b0 : Nat} (hl : l.stackTraces = false) {a0 : Nat} {x1 : Int} {μ : Me} {w : Int × Me} (h : s_X11_inverse a0 x1 μ = some w) : MN l D b0 yX11_inverse (ws_ yX11_inverse cX11_inverse 2 (some .int)) 4 [vO a0, vI x1] μ (some (vI w.1)) w.2 :=
  MN.of hl (by decide +kernel) (Nat.le_of_ble_eq_true rfl) (fun Z C _ _ => w_X11_inverse C h rfl)
noncomputable def s_X11_turnsBack (a0 : Nat) (μ : Me) : Option (Me) :=
  (ck μ 9 a0).bind fun _ =>
  (s_X11_detNow a0  μ).bind fun q1 =>
  (ck q1.2 9 a0).bind fun _ =>
  (s_X11_inverse a0 q1.1 q1.2).bind fun q3 =>
  (gI q3.2 9 a0 9).bind fun v5 =>
  (ck q3.2 9 a0).bind fun _ =>
  (s_X11_times a0 v5 q3.1 q3.2).bind fun q6 =>
  (gI q6.2 9 a0 7).bind fun v8 =>
  (ck q6.2 9 a0).bind fun _ =>
  (s_X11_less a0 0 v8 q6.2).bind fun q9 =>
  (ck q9.2 9 a0).bind fun _ =>
  (s_X11_times a0 q9.1 q3.1 q9.2).bind fun q11 =>
  (gI q11.2 9 a0 8).bind fun v13 =>
  (ck q11.2 9 a0).bind fun _ =>
  (s_X11_less a0 0 v13 q11.2).bind fun q14 =>
  (ck q14.2 9 a0).bind fun _ =>
  (s_X11_times a0 q14.1 q3.1 q14.2).bind fun q16 =>
  (gI q16.2 9 a0 6).bind fun v18 =>
  (ck q16.2 9 a0).bind fun _ =>
  (s_X11_times a0 v18 q3.1 q16.2).bind fun q19 =>
  (ck q19.2 9 a0).bind fun _ =>
  (s_X11_takesTable a0 q6.1 q11.1 q16.1 q19.1 q19.2).bind fun q21 =>
  some q21
theorem w_X11_turnsBack {Z : Zt} {fin : Me} {w : Me} (C : CX Z yX11_turnsBack cX11_turnsBack none 5 2) {a0 : Nat} {μ : Me} (h : s_X11_turnsBack a0 μ = some w) (hK : w = fin) : WL Z (QN Z none fin) μ 0 [(0, vO a0)] [] := by
  unfold s_X11_turnsBack at h
  refine r_aload_n C 0 dX11_turnsBack_0 rfl rfl ?_
  refine r_aload_n C 0 dX11_turnsBack_1 rfl rfl ?_
  obtain ⟨u2, eu2, h⟩ := bs h
  obtain ⟨q1, eq1, h⟩ := bs h
  refine r_callV C (As := []) (b := a0) (rest := [vO a0]) (st1 := [vI q1.1, vO a0]) (v := some (vI q1.1)) (r := (RX11, TX11, 38)) (ci := 9) rfl eu2 (m_X11_detNow C.tr eq1) (lw_V q1537 q1539 qs53 q133 q1540) rfl hdX11_detNow rfl rfl (Nat.le_of_ble_eq_true rfl) ⟨by decide, by decide⟩ dX11_turnsBack_2 rfl ?_
  obtain ⟨u4, eu4, h⟩ := bs h
  obtain ⟨q3, eq3, h⟩ := bs h
  refine r_callV C (As := [vI q1.1]) (b := a0) (rest := []) (st1 := [vI q3.1]) (v := some (vI q3.1)) (r := (RX11, TX11, 38)) (ci := 9) rfl eu4 (m_X11_inverse C.tr eq3) (lw_V q1581 q1583 qs62 q133 q1584) rfl hdX11_inverse rfl rfl (Nat.le_of_ble_eq_true rfl) ⟨by decide, by decide⟩ dX11_turnsBack_5 rfl ?_
  refine r_istore_n C [(1, vI q3.1), (0, vO a0)] dX11_turnsBack_8 rfl (by decide) rfl ?_
  refine r_aload_n C 1 dX11_turnsBack_9 rfl rfl ?_
  refine r_aload_n C 1 dX11_turnsBack_10 rfl rfl ?_
  refine r_aload_n C 1 dX11_turnsBack_11 rfl rfl ?_
  obtain ⟨v5, ev5, h⟩ := bs h
  refine r_getI C (c := 9) (r := (RX11, TX11, 38)) rfl 9 (by decide) rfl ev5 q1322 dX11_turnsBack_12 ?_
  refine r_iload_n C 0 dX11_turnsBack_15 rfl rfl ?_
  obtain ⟨u7, eu7, h⟩ := bs h
  obtain ⟨q6, eq6, h⟩ := bs h
  refine r_callV C (As := [vI v5, vI q3.1]) (b := a0) (rest := [vO a0]) (st1 := [vI q6.1, vO a0]) (v := some (vI q6.1)) (r := (RX11, TX11, 38)) (ci := 9) rfl eu7 (m_X11_times C.tr eq6) (lw_V q1541 q1543 qs54 q133 q1544) rfl hdX11_times rfl rfl (Nat.le_of_ble_eq_true rfl) ⟨by decide, by decide⟩ dX11_turnsBack_16 rfl ?_
  refine r_aload_n C 1 dX11_turnsBack_19 rfl rfl ?_
  refine r_aload_n C 1 dX11_turnsBack_20 rfl rfl ?_
  refine r_iconst C dX11_turnsBack_21 ?_
  refine r_aload_n C 1 dX11_turnsBack_22 rfl rfl ?_
  obtain ⟨v8, ev8, h⟩ := bs h
  refine r_getI C (c := 9) (r := (RX11, TX11, 38)) rfl 7 (by decide) rfl ev8 q1320 dX11_turnsBack_23 ?_
  obtain ⟨u10, eu10, h⟩ := bs h
  obtain ⟨q9, eq9, h⟩ := bs h
  refine r_callV C (As := [vI 0, vI v8]) (b := a0) (rest := [vO a0, vI q6.1, vO a0]) (st1 := [vI q9.1, vO a0, vI q6.1, vO a0]) (v := some (vI q9.1)) (r := (RX11, TX11, 38)) (ci := 9) rfl eu10 (m_X11_less C.tr eq9) (lw_V q1545 q1547 qs55 q133 q1548) rfl hdX11_less rfl rfl (Nat.le_of_ble_eq_true rfl) ⟨by decide, by decide⟩ dX11_turnsBack_26 rfl ?_
  refine r_iload_n C 0 dX11_turnsBack_29 rfl rfl ?_
  obtain ⟨u12, eu12, h⟩ := bs h
  obtain ⟨q11, eq11, h⟩ := bs h
  refine r_callV C (As := [vI q9.1, vI q3.1]) (b := a0) (rest := [vI q6.1, vO a0]) (st1 := [vI q11.1, vI q6.1, vO a0]) (v := some (vI q11.1)) (r := (RX11, TX11, 38)) (ci := 9) rfl eu12 (m_X11_times C.tr eq11) (lw_V q1541 q1543 qs54 q133 q1544) rfl hdX11_times rfl rfl (Nat.le_of_ble_eq_true rfl) ⟨by decide, by decide⟩ dX11_turnsBack_30 rfl ?_
  refine r_aload_n C 1 dX11_turnsBack_33 rfl rfl ?_
  refine r_aload_n C 1 dX11_turnsBack_34 rfl rfl ?_
  refine r_iconst C dX11_turnsBack_35 ?_
  refine r_aload_n C 1 dX11_turnsBack_36 rfl rfl ?_
  obtain ⟨v13, ev13, h⟩ := bs h
  refine r_getI C (c := 9) (r := (RX11, TX11, 38)) rfl 8 (by decide) rfl ev13 q1321 dX11_turnsBack_37 ?_
  obtain ⟨u15, eu15, h⟩ := bs h
  obtain ⟨q14, eq14, h⟩ := bs h
  refine r_callV C (As := [vI 0, vI v13]) (b := a0) (rest := [vO a0, vI q11.1, vI q6.1, vO a0]) (st1 := [vI q14.1, vO a0, vI q11.1, vI q6.1, vO a0]) (v := some (vI q14.1)) (r := (RX11, TX11, 38)) (ci := 9) rfl eu15 (m_X11_less C.tr eq14) (lw_V q1545 q1547 qs55 q133 q1548) rfl hdX11_less rfl rfl (Nat.le_of_ble_eq_true rfl) ⟨by decide, by decide⟩ dX11_turnsBack_40 rfl ?_
  refine r_iload_n C 0 dX11_turnsBack_43 rfl rfl ?_
  obtain ⟨u17, eu17, h⟩ := bs h
  obtain ⟨q16, eq16, h⟩ := bs h
  refine r_callV C (As := [vI q14.1, vI q3.1]) (b := a0) (rest := [vI q11.1, vI q6.1, vO a0]) (st1 := [vI q16.1, vI q11.1, vI q6.1, vO a0]) (v := some (vI q16.1)) (r := (RX11, TX11, 38)) (ci := 9) rfl eu17 (m_X11_times C.tr eq16) (lw_V q1541 q1543 qs54 q133 q1544) rfl hdX11_times rfl rfl (Nat.le_of_ble_eq_true rfl) ⟨by decide, by decide⟩ dX11_turnsBack_44 rfl ?_
  refine r_aload_n C 1 dX11_turnsBack_47 rfl rfl ?_
  refine r_aload_n C 1 dX11_turnsBack_48 rfl rfl ?_
  obtain ⟨v18, ev18, h⟩ := bs h
  refine r_getI C (c := 9) (r := (RX11, TX11, 38)) rfl 6 (by decide) rfl ev18 q1319 dX11_turnsBack_49 ?_
  refine r_iload_n C 0 dX11_turnsBack_52 rfl rfl ?_
  obtain ⟨u20, eu20, h⟩ := bs h
  obtain ⟨q19, eq19, h⟩ := bs h
  refine r_callV C (As := [vI v18, vI q3.1]) (b := a0) (rest := [vI q16.1, vI q11.1, vI q6.1, vO a0]) (st1 := [vI q19.1, vI q16.1, vI q11.1, vI q6.1, vO a0]) (v := some (vI q19.1)) (r := (RX11, TX11, 38)) (ci := 9) rfl eu20 (m_X11_times C.tr eq19) (lw_V q1541 q1543 qs54 q133 q1544) rfl hdX11_times rfl rfl (Nat.le_of_ble_eq_true rfl) ⟨by decide, by decide⟩ dX11_turnsBack_53 rfl ?_
  obtain ⟨u22, eu22, h⟩ := bs h
  obtain ⟨q21, eq21, h⟩ := bs h
  refine r_callV C (As := [vI q6.1, vI q11.1, vI q16.1, vI q19.1]) (b := a0) (rest := []) (st1 := []) (v := none) (r := (RX11, TX11, 38)) (ci := 9) rfl eu22 (m_X11_takesTable C.tr eq21) (lw_V q1533 q1535 qs52 q133 q1536) rfl hdX11_takesTable rfl rfl (Nat.le_of_ble_eq_true rfl) ⟨by decide, by decide⟩ dX11_turnsBack_56 rfl ?_
  cases h
  exact r_vret C hK dX11_turnsBack_59
theorem hdX11_turnsBack : zhd yX11_turnsBack 0 := by decide +kernel
theorem m_X11_turnsBack {l : Launch} {D : va_G} {b0 : Nat} (hl : l.stackTraces = false) {a0 : Nat} {μ : Me} {w : Me} (h : s_X11_turnsBack a0 μ = some w) : MN l D b0 yX11_turnsBack (ws_ yX11_turnsBack cX11_turnsBack 2 none) 5 [vO a0] μ none w :=
  MN.of hl (by decide +kernel) (Nat.le_of_ble_eq_true rfl) (fun Z C _ _ => w_X11_turnsBack C h rfl)
noncomputable def s_X11_turn_b35 (a0 : Nat) (x1 : Int) (t0 : Int) (t1 : Nat) (μ : Me) : Option (Int × Me) :=
  (ck μ 9 t1).bind fun _ =>
  (s_X11_throwsIf t1 t0 2 μ).bind fun q10 =>
  (if w32 q10.1 = 0 then
  (ck q10.2 9 a0).bind fun _ =>
  (s_X11_tables a0 x1 q10.2).bind fun q13 =>
  (ck q13 9 a0).bind fun _ =>
  (s_X11_turnsBack a0  q13).bind fun q15 =>
  (ck q15 9 a0).bind fun _ =>
  (s_X11_lays a0  q15).bind fun q17 =>
  some (q17.1, q17.2)
  else
  some (0, q10.2))
theorem w_X11_turn_b35 {Z : Zt} {fin : Int × Me} {w : (Int × Me)} (C : CX Z yX11_turn cX11_turn (some .int) 6 2) {a0 : Nat} {x1 : Int} {t0 : Int} {t1 : Nat} {μ : Me} (h : s_X11_turn_b35 a0 x1 t0 t1 μ = some w) (hK : (fun r : Int × Me => r = fin) w) : WL Z (QN Z (some (vI fin.1)) fin.2) μ 35 [(0, vO a0), (1, vI x1)] [vI t0, vO t1] := by
  unfold s_X11_turn_b35 at h
  refine r_iconst C dX11_turn_35 ?_
  obtain ⟨u11, eu11, h⟩ := bs h
  obtain ⟨q10, eq10, h⟩ := bs h
  refine r_callV C (As := [vI t0, vI 2]) (b := t1) (rest := []) (st1 := [vI q10.1]) (v := some (vI q10.1)) (r := (RX11, TX11, 38)) (ci := 9) rfl eu11 (m_X11_throwsIf C.tr eq10) (lw_V q1500 q1502 qs49 q133 q1503) rfl hdX11_throwsIf rfl rfl (Nat.le_of_ble_eq_true rfl) ⟨by decide, by decide⟩ dX11_turn_36 rfl ?_
  refine r_if_eq C dX11_turn_39 (tgt := 44) (by decide) (fun c12 => ?_) (fun c12 => ?_)
  · have h := it_ h c12
    refine r_aload_n C 0 dX11_turn_44 rfl rfl ?_
    refine r_iload_n C 1 dX11_turn_45 rfl rfl ?_
    obtain ⟨u14, eu14, h⟩ := bs h
    obtain ⟨q13, eq13, h⟩ := bs h
    refine r_callV C (As := [vI x1]) (b := a0) (rest := []) (st1 := []) (v := none) (r := (RX11, TX11, 38)) (ci := 9) rfl eu14 (m_X11_tables C.tr eq13) (lw_V q1561 q1563 qs58 q133 q1564) rfl hdX11_tables rfl rfl (Nat.le_of_ble_eq_true rfl) ⟨by decide, by decide⟩ dX11_turn_46 rfl ?_
    refine r_aload_n C 0 dX11_turn_49 rfl rfl ?_
    obtain ⟨u16, eu16, h⟩ := bs h
    obtain ⟨q15, eq15, h⟩ := bs h
    refine r_callV C (As := []) (b := a0) (rest := []) (st1 := []) (v := none) (r := (RX11, TX11, 38)) (ci := 9) rfl eu16 (m_X11_turnsBack C.tr eq15) (lw_V q1577 q1579 qs61 q133 q1580) rfl hdX11_turnsBack rfl rfl (Nat.le_of_ble_eq_true rfl) ⟨by decide, by decide⟩ dX11_turn_50 rfl ?_
    refine r_aload_n C 0 dX11_turn_53 rfl rfl ?_
    obtain ⟨u18, eu18, h⟩ := bs h
    obtain ⟨q17, eq17, h⟩ := bs h
    refine r_callV C (As := []) (b := a0) (rest := []) (st1 := [vI q17.1]) (v := some (vI q17.1)) (r := (RX11, TX11, 38)) (ci := 9) rfl eu18 (m_X11_lays C.tr eq17) (lw_V q1549 q1551 qs56 q133 q1552) rfl hdX11_lays rfl rfl (Nat.le_of_ble_eq_true rfl) ⟨by decide, by decide⟩ dX11_turn_54 rfl ?_
    cases h
    exact r_iret C hK dX11_turn_57
  · have h := ie_ h c12
    refine r_iconst C dX11_turn_42 ?_
    cases h
    exact r_iret C hK dX11_turn_43
noncomputable def s_X11_turn (a0 : Nat) (x1 : Int) (μ : Me) : Option (Int × Me) :=
  (pI μ 9 a0 0 0).bind fun m1 =>
  (ck m1 9 a0).bind fun _ =>
  (s_X11_noTable a0 x1 m1).bind fun q2 =>
  (ck q2.2 9 a0).bind fun _ =>
  (s_X11_throwsIf a0 q2.1 1 q2.2).bind fun q4 =>
  (if w32 q4.1 = 0 then
  (gR q4.2 9 a0 1).bind fun v7 =>
  (aI q4.2 101 v7 2).bind fun v8 =>
  (if w32 v8 = w32 8 then
  s_X11_turn_b35 a0 x1 1 a0 q4.2
  else
  s_X11_turn_b35 a0 x1 0 a0 q4.2)
  else
  some (0, q4.2))
theorem w_X11_turn {Z : Zt} {fin : Int × Me} {w : Int × Me} (C : CX Z yX11_turn cX11_turn (some .int) 6 2) {a0 : Nat} {x1 : Int} {μ : Me} (h : s_X11_turn a0 x1 μ = some w) (hK : w = fin) : WL Z (QN Z (some (vI fin.1)) fin.2) μ 0 [(0, vO a0), (1, vI x1)] [] := by
  unfold s_X11_turn at h
  refine r_aload_n C 0 dX11_turn_0 rfl rfl ?_
  refine r_iconst C dX11_turn_1 ?_
  obtain ⟨m1, em1, h⟩ := bs h
  refine r_putI C (c := 9) (r := (RX11, TX11, 38)) rfl 0 (by decide) rfl ⟨rfl, rfl⟩ rfl em1 q1313 dX11_turn_2 ?_
  refine r_aload_n C 0 dX11_turn_5 rfl rfl ?_
  refine r_aload_n C 0 dX11_turn_6 rfl rfl ?_
  refine r_iload_n C 1 dX11_turn_7 rfl rfl ?_
  obtain ⟨u3, eu3, h⟩ := bs h
  obtain ⟨q2, eq2, h⟩ := bs h
  refine r_callV C (As := [vI x1]) (b := a0) (rest := [vO a0]) (st1 := [vI q2.1, vO a0]) (v := some (vI q2.1)) (r := (RX11, TX11, 38)) (ci := 9) rfl eu3 (m_X11_noTable C.tr eq2) (lw_V q1557 q1559 qs57 q133 q1560) rfl hdX11_noTable rfl rfl (Nat.le_of_ble_eq_true rfl) ⟨by decide, by decide⟩ dX11_turn_8 rfl ?_
  refine r_iconst C dX11_turn_11 ?_
  obtain ⟨u5, eu5, h⟩ := bs h
  obtain ⟨q4, eq4, h⟩ := bs h
  refine r_callV C (As := [vI q2.1, vI 1]) (b := a0) (rest := []) (st1 := [vI q4.1]) (v := some (vI q4.1)) (r := (RX11, TX11, 38)) (ci := 9) rfl eu5 (m_X11_throwsIf C.tr eq4) (lw_V q1500 q1502 qs49 q133 q1503) rfl hdX11_throwsIf rfl rfl (Nat.le_of_ble_eq_true rfl) ⟨by decide, by decide⟩ dX11_turn_12 rfl ?_
  refine r_if_ne C dX11_turn_15 (tgt := 42) (by decide) (fun c6 => ?_) (fun c6 => ?_)
  · have h := ie_ h c6
    refine r_iconst C dX11_turn_42 ?_
    cases h
    exact r_iret C hK dX11_turn_43
  · have h := it_ h c6
    refine r_aload_n C 0 dX11_turn_18 rfl rfl ?_
    refine r_aload_n C 0 dX11_turn_19 rfl rfl ?_
    obtain ⟨v7, ev7, h⟩ := bs h
    refine r_getR C (c := 9) (r := (RX11, TX11, 38)) rfl 1 (by decide) rfl ev7 q1314 dX11_turn_20 ?_
    refine r_iconst C dX11_turn_23 ?_
    obtain ⟨v8, ev8, h⟩ := bs h
    refine r_iald C ev8 dX11_turn_24 ?_
    refine r_bipush C dX11_turn_25 (by decide) ?_
    refine r_icmp_ne C dX11_turn_27 (tgt := 34) (by decide) (fun c9 => ?_) (fun c9 => ?_)
    · have h := ie_ h c9
      refine r_iconst C dX11_turn_34 ?_
      exact w_X11_turn_b35 (fin := fin) C h hK
    · have h := it_ h c9
      refine r_iconst C dX11_turn_30 ?_
      refine r_goto C dX11_turn_31 (tgt := 35) (by decide) ?_
      exact w_X11_turn_b35 (fin := fin) C h hK
theorem hdX11_turn : zhd yX11_turn 1 := by decide +kernel
theorem m_X11_turn {l : Launch} {D : va_G} {b0 : Nat} (hl : l.stackTraces = false) {a0 : Nat} {x1 : Int} {μ : Me} {w : Int × Me} (h : s_X11_turn a0 x1 μ = some w) : MN l D b0 yX11_turn (ws_ yX11_turn cX11_turn 2 (some .int)) 6 [vO a0, vI x1] μ (some (vI w.1)) w.2 :=
  MN.of hl (by decide +kernel) (Nat.le_of_ble_eq_true rfl) (fun Z C _ _ => w_X11_turn C h rfl)
noncomputable def s_X11_told (a0 : Nat) (x1 : Int) (x2 : Int) (μ : Me) : Option (Int × Me) :=
  (pI μ 9 a0 0 0).bind fun m1 =>
  (ck m1 9 a0).bind fun _ =>
  (s_X11_noTable a0 x1 m1).bind fun q2 =>
  (ck q2.2 9 a0).bind fun _ =>
  (s_X11_throwsIf a0 q2.1 1 q2.2).bind fun q4 =>
  (if w32 q4.1 = 0 then
  (s_X11_in x2 0 3 q4.2).bind fun q7 =>
  (if w32 q7.1 = 0 then
  some ((-1), q7.2)
  else
  (ck q7.2 9 a0).bind fun _ =>
  (s_X11_ofTable a0 x1 x2 q7.2).bind fun q9 =>
  some (q9.1, q9.2))
  else
  some (0, q4.2))
theorem w_X11_told {Z : Zt} {fin : Int × Me} {w : Int × Me} (C : CX Z yX11_told cX11_told (some .int) 3 3) {a0 : Nat} {x1 : Int} {x2 : Int} {μ : Me} (h : s_X11_told a0 x1 x2 μ = some w) (hK : w = fin) : WL Z (QN Z (some (vI fin.1)) fin.2) μ 0 [(0, vO a0), (1, vI x1), (2, vI x2)] [] := by
  unfold s_X11_told at h
  refine r_aload_n C 0 dX11_told_0 rfl rfl ?_
  refine r_iconst C dX11_told_1 ?_
  obtain ⟨m1, em1, h⟩ := bs h
  refine r_putI C (c := 9) (r := (RX11, TX11, 38)) rfl 0 (by decide) rfl ⟨rfl, rfl⟩ rfl em1 q1313 dX11_told_2 ?_
  refine r_aload_n C 0 dX11_told_5 rfl rfl ?_
  refine r_aload_n C 0 dX11_told_6 rfl rfl ?_
  refine r_iload_n C 1 dX11_told_7 rfl rfl ?_
  obtain ⟨u3, eu3, h⟩ := bs h
  obtain ⟨q2, eq2, h⟩ := bs h
  refine r_callV C (As := [vI x1]) (b := a0) (rest := [vO a0]) (st1 := [vI q2.1, vO a0]) (v := some (vI q2.1)) (r := (RX11, TX11, 38)) (ci := 9) rfl eu3 (m_X11_noTable C.tr eq2) (lw_V q1557 q1559 qs57 q133 q1560) rfl hdX11_noTable rfl rfl (Nat.le_of_ble_eq_true rfl) ⟨by decide, by decide⟩ dX11_told_8 rfl ?_
  refine r_iconst C dX11_told_11 ?_
  obtain ⟨u5, eu5, h⟩ := bs h
  obtain ⟨q4, eq4, h⟩ := bs h
  refine r_callV C (As := [vI q2.1, vI 1]) (b := a0) (rest := []) (st1 := [vI q4.1]) (v := some (vI q4.1)) (r := (RX11, TX11, 38)) (ci := 9) rfl eu5 (m_X11_throwsIf C.tr eq4) (lw_V q1500 q1502 qs49 q133 q1503) rfl hdX11_throwsIf rfl rfl (Nat.le_of_ble_eq_true rfl) ⟨by decide, by decide⟩ dX11_told_12 rfl ?_
  refine r_if_eq C dX11_told_15 (tgt := 22) (by decide) (fun c6 => ?_) (fun c6 => ?_)
  · have h := it_ h c6
    refine r_iload_n C 2 dX11_told_22 rfl rfl ?_
    refine r_iconst C dX11_told_23 ?_
    refine r_iconst C dX11_told_24 ?_
    obtain ⟨q7, eq7, h⟩ := bs h
    refine r_callS C (As := [vI x2, vI 0, vI 3]) (rest := []) (st1 := [vI q7.1]) (v := some (vI q7.1)) (m_X11_in C.tr eq7) (lw_S q1512 q1513 q133 q1514) hdX11_in rfl rfl (Nat.le_of_ble_eq_true rfl) ⟨by decide, by decide⟩ dX11_told_25 rfl ?_
    refine r_if_eq C dX11_told_28 (tgt := 40) (by decide) (fun c8 => ?_) (fun c8 => ?_)
    · have h := it_ h c8
      refine r_iconst C dX11_told_40 ?_
      cases h
      exact r_iret C hK dX11_told_41
    · have h := ie_ h c8
      refine r_aload_n C 0 dX11_told_31 rfl rfl ?_
      refine r_iload_n C 1 dX11_told_32 rfl rfl ?_
      refine r_iload_n C 2 dX11_told_33 rfl rfl ?_
      obtain ⟨u10, eu10, h⟩ := bs h
      obtain ⟨q9, eq9, h⟩ := bs h
      refine r_callV C (As := [vI x1, vI x2]) (b := a0) (rest := []) (st1 := [vI q9.1]) (v := some (vI q9.1)) (r := (RX11, TX11, 38)) (ci := 9) rfl eu10 (m_X11_ofTable C.tr eq9) (lw_V q1565 q1567 qs59 q133 q1568) rfl hdX11_ofTable rfl rfl (Nat.le_of_ble_eq_true rfl) ⟨by decide, by decide⟩ dX11_told_34 rfl ?_
      refine r_goto C dX11_told_37 (tgt := 41) (by decide) ?_
      cases h
      exact r_iret C hK dX11_told_41
  · have h := ie_ h c6
    refine r_iconst C dX11_told_18 ?_
    refine r_goto C dX11_told_19 (tgt := 41) (by decide) ?_
    cases h
    exact r_iret C hK dX11_told_41
theorem hdX11_told : zhd yX11_told 2 := by decide +kernel
theorem m_X11_told {l : Launch} {D : va_G} {b0 : Nat} (hl : l.stackTraces = false) {a0 : Nat} {x1 : Int} {x2 : Int} {μ : Me} {w : Int × Me} (h : s_X11_told a0 x1 x2 μ = some w) : MN l D b0 yX11_told (ws_ yX11_told cX11_told 3 (some .int)) 3 [vO a0, vI x1, vI x2] μ (some (vI w.1)) w.2 :=
  MN.of hl (by decide +kernel) (Nat.le_of_ble_eq_true rfl) (fun Z C _ _ => w_X11_told C h rfl)
noncomputable def s_X11_det (a0 : Nat) (x1 : Int) (μ : Me) : Option (Int × Me) :=
  (pI μ 9 a0 0 0).bind fun m1 =>
  (ck m1 9 a0).bind fun _ =>
  (s_X11_noTable a0 x1 m1).bind fun q2 =>
  (ck q2.2 9 a0).bind fun _ =>
  (s_X11_throwsIf a0 q2.1 1 q2.2).bind fun q4 =>
  (if w32 q4.1 = 0 then
  (ck q4.2 9 a0).bind fun _ =>
  (s_X11_tables a0 x1 q4.2).bind fun q7 =>
  (ck q7 9 a0).bind fun _ =>
  (s_X11_detNow a0  q7).bind fun q9 =>
  some (q9.1, q9.2)
  else
  some (0, q4.2))
theorem w_X11_det {Z : Zt} {fin : Int × Me} {w : Int × Me} (C : CX Z yX11_det cX11_det (some .int) 4 2) {a0 : Nat} {x1 : Int} {μ : Me} (h : s_X11_det a0 x1 μ = some w) (hK : w = fin) : WL Z (QN Z (some (vI fin.1)) fin.2) μ 0 [(0, vO a0), (1, vI x1)] [] := by
  unfold s_X11_det at h
  refine r_aload_n C 0 dX11_det_0 rfl rfl ?_
  refine r_iconst C dX11_det_1 ?_
  obtain ⟨m1, em1, h⟩ := bs h
  refine r_putI C (c := 9) (r := (RX11, TX11, 38)) rfl 0 (by decide) rfl ⟨rfl, rfl⟩ rfl em1 q1313 dX11_det_2 ?_
  refine r_aload_n C 0 dX11_det_5 rfl rfl ?_
  refine r_aload_n C 0 dX11_det_6 rfl rfl ?_
  refine r_iload_n C 1 dX11_det_7 rfl rfl ?_
  obtain ⟨u3, eu3, h⟩ := bs h
  obtain ⟨q2, eq2, h⟩ := bs h
  refine r_callV C (As := [vI x1]) (b := a0) (rest := [vO a0]) (st1 := [vI q2.1, vO a0]) (v := some (vI q2.1)) (r := (RX11, TX11, 38)) (ci := 9) rfl eu3 (m_X11_noTable C.tr eq2) (lw_V q1557 q1559 qs57 q133 q1560) rfl hdX11_noTable rfl rfl (Nat.le_of_ble_eq_true rfl) ⟨by decide, by decide⟩ dX11_det_8 rfl ?_
  refine r_iconst C dX11_det_11 ?_
  obtain ⟨u5, eu5, h⟩ := bs h
  obtain ⟨q4, eq4, h⟩ := bs h
  refine r_callV C (As := [vI q2.1, vI 1]) (b := a0) (rest := []) (st1 := [vI q4.1]) (v := some (vI q4.1)) (r := (RX11, TX11, 38)) (ci := 9) rfl eu5 (m_X11_throwsIf C.tr eq4) (lw_V q1500 q1502 qs49 q133 q1503) rfl hdX11_throwsIf rfl rfl (Nat.le_of_ble_eq_true rfl) ⟨by decide, by decide⟩ dX11_det_12 rfl ?_
  refine r_if_eq C dX11_det_15 (tgt := 20) (by decide) (fun c6 => ?_) (fun c6 => ?_)
  · have h := it_ h c6
    refine r_aload_n C 0 dX11_det_20 rfl rfl ?_
    refine r_iload_n C 1 dX11_det_21 rfl rfl ?_
    obtain ⟨u8, eu8, h⟩ := bs h
    obtain ⟨q7, eq7, h⟩ := bs h
    refine r_callV C (As := [vI x1]) (b := a0) (rest := []) (st1 := []) (v := none) (r := (RX11, TX11, 38)) (ci := 9) rfl eu8 (m_X11_tables C.tr eq7) (lw_V q1561 q1563 qs58 q133 q1564) rfl hdX11_tables rfl rfl (Nat.le_of_ble_eq_true rfl) ⟨by decide, by decide⟩ dX11_det_22 rfl ?_
    refine r_aload_n C 0 dX11_det_25 rfl rfl ?_
    obtain ⟨u10, eu10, h⟩ := bs h
    obtain ⟨q9, eq9, h⟩ := bs h
    refine r_callV C (As := []) (b := a0) (rest := []) (st1 := [vI q9.1]) (v := some (vI q9.1)) (r := (RX11, TX11, 38)) (ci := 9) rfl eu10 (m_X11_detNow C.tr eq9) (lw_V q1537 q1539 qs53 q133 q1540) rfl hdX11_detNow rfl rfl (Nat.le_of_ble_eq_true rfl) ⟨by decide, by decide⟩ dX11_det_26 rfl ?_
    cases h
    exact r_iret C hK dX11_det_29
  · have h := ie_ h c6
    refine r_iconst C dX11_det_18 ?_
    cases h
    exact r_iret C hK dX11_det_19
theorem hdX11_det : zhd yX11_det 1 := by decide +kernel
theorem m_X11_det {l : Launch} {D : va_G} {b0 : Nat} (hl : l.stackTraces = false) {a0 : Nat} {x1 : Int} {μ : Me} {w : Int × Me} (h : s_X11_det a0 x1 μ = some w) : MN l D b0 yX11_det (ws_ yX11_det cX11_det 2 (some .int)) 4 [vO a0, vI x1] μ (some (vI w.1)) w.2 :=
  MN.of hl (by decide +kernel) (Nat.le_of_ble_eq_true rfl) (fun Z C _ _ => w_X11_det C h rfl)
noncomputable def s_X11_noForm (a0 : Nat) (x1 : Int) (μ : Me) : Option (Int × Me) :=
  (gR μ 9 a0 1).bind fun v1 =>
  (aI μ 101 v1 1).bind fun v2 =>
  (s_X11_in x1 0 (v2 - 1) μ).bind fun q3 =>
  (if w32 q3.1 = 0 then
  some (1, q3.2)
  else
  some (0, q3.2))
theorem w_X11_noForm {Z : Zt} {fin : Int × Me} {w : Int × Me} (C : CX Z yX11_noForm cX11_noForm (some .boolean) 2 2) {a0 : Nat} {x1 : Int} {μ : Me} (h : s_X11_noForm a0 x1 μ = some w) (hK : w = fin) : WL Z (QN Z (some (vI fin.1)) fin.2) μ 0 [(0, vO a0), (1, vI x1)] [] := by
  unfold s_X11_noForm at h
  refine r_iload_n C 1 dX11_noForm_0 rfl rfl ?_
  refine r_iconst C dX11_noForm_1 ?_
  refine r_aload_n C 0 dX11_noForm_2 rfl rfl ?_
  obtain ⟨v1, ev1, h⟩ := bs h
  refine r_getR C (c := 9) (r := (RX11, TX11, 38)) rfl 1 (by decide) rfl ev1 q1314 dX11_noForm_3 ?_
  refine r_iconst C dX11_noForm_6 ?_
  obtain ⟨v2, ev2, h⟩ := bs h
  refine r_iald C ev2 dX11_noForm_7 ?_
  refine r_iconst C dX11_noForm_8 ?_
  refine r_isub C dX11_noForm_9 ?_
  obtain ⟨q3, eq3, h⟩ := bs h
  refine r_callS C (As := [vI x1, vI 0, vI (v2 - 1)]) (rest := []) (st1 := [vI q3.1]) (v := some (vI q3.1)) (m_X11_in C.tr eq3) (lw_S q1512 q1513 q133 q1514) hdX11_in rfl rfl (Nat.le_of_ble_eq_true rfl) ⟨by decide, by decide⟩ dX11_noForm_10 rfl ?_
  refine r_if_ne C dX11_noForm_13 (tgt := 20) (by decide) (fun c4 => ?_) (fun c4 => ?_)
  · have h := ie_ h c4
    refine r_iconst C dX11_noForm_20 ?_
    cases h
    exact r_zret C (Or.inl rfl) hK dX11_noForm_21
  · have h := it_ h c4
    refine r_iconst C dX11_noForm_16 ?_
    refine r_goto C dX11_noForm_17 (tgt := 21) (by decide) ?_
    cases h
    exact r_zret C (Or.inr rfl) hK dX11_noForm_21
theorem hdX11_noForm : zhd yX11_noForm 1 := by decide +kernel
theorem m_X11_noForm {l : Launch} {D : va_G} {b0 : Nat} (hl : l.stackTraces = false) {a0 : Nat} {x1 : Int} {μ : Me} {w : Int × Me} (h : s_X11_noForm a0 x1 μ = some w) : MN l D b0 yX11_noForm (ws_ yX11_noForm cX11_noForm 2 (some .boolean)) 2 [vO a0, vI x1] μ (some (vI w.1)) w.2 :=
  MN.of hl (by decide +kernel) (Nat.le_of_ble_eq_true rfl) (fun Z C _ _ => w_X11_noForm C h rfl)
noncomputable def s_X11_degreeOf (a0 : Nat) (x1 : Int) (μ : Me) : Option (Int × Me) :=
  (gR μ 9 a0 1).bind fun v1 =>
  (s_X11_formAt x1 μ).bind fun q2 =>
  (aI q2.2 101 v1 q2.1).bind fun v3 =>
  some (v3, q2.2)
theorem w_X11_degreeOf {Z : Zt} {fin : Int × Me} {w : Int × Me} (C : CX Z yX11_degreeOf cX11_degreeOf (some .int) 2 2) {a0 : Nat} {x1 : Int} {μ : Me} (h : s_X11_degreeOf a0 x1 μ = some w) (hK : w = fin) : WL Z (QN Z (some (vI fin.1)) fin.2) μ 0 [(0, vO a0), (1, vI x1)] [] := by
  unfold s_X11_degreeOf at h
  refine r_aload_n C 0 dX11_degreeOf_0 rfl rfl ?_
  obtain ⟨v1, ev1, h⟩ := bs h
  refine r_getR C (c := 9) (r := (RX11, TX11, 38)) rfl 1 (by decide) rfl ev1 q1314 dX11_degreeOf_1 ?_
  refine r_iload_n C 1 dX11_degreeOf_4 rfl rfl ?_
  obtain ⟨q2, eq2, h⟩ := bs h
  refine r_callS C (As := [vI x1]) (rest := [vO v1]) (st1 := [vI q2.1, vO v1]) (v := some (vI q2.1)) (m_X11_formAt C.tr eq2) (lw_S q1515 q1516 q133 q1517) hdX11_formAt rfl rfl (Nat.le_of_ble_eq_true rfl) ⟨by decide, by decide⟩ dX11_degreeOf_5 rfl ?_
  obtain ⟨v3, ev3, h⟩ := bs h
  refine r_iald C ev3 dX11_degreeOf_8 ?_
  cases h
  exact r_iret C hK dX11_degreeOf_9
theorem hdX11_degreeOf : zhd yX11_degreeOf 1 := by decide +kernel
theorem m_X11_degreeOf {l : Launch} {D : va_G} {b0 : Nat} (hl : l.stackTraces = false) {a0 : Nat} {x1 : Int} {μ : Me} {w : Int × Me} (h : s_X11_degreeOf a0 x1 μ = some w) : MN l D b0 yX11_degreeOf (ws_ yX11_degreeOf cX11_degreeOf 2 (some .int)) 2 [vO a0, vI x1] μ (some (vI w.1)) w.2 :=
  MN.of hl (by decide +kernel) (Nat.le_of_ble_eq_true rfl) (fun Z C _ _ => w_X11_degreeOf C h rfl)
noncomputable def s_X11_numberOf (a0 : Nat) (x1 : Int) (x2 : Int) (μ : Me) : Option (Int × Me) :=
  (gR μ 9 a0 1).bind fun v1 =>
  (s_X11_formAt x1 μ).bind fun q2 =>
  (aI q2.2 101 v1 ((q2.1 + 1) + x2)).bind fun v3 =>
  some (v3, q2.2)
theorem w_X11_numberOf {Z : Zt} {fin : Int × Me} {w : Int × Me} (C : CX Z yX11_numberOf cX11_numberOf (some .int) 2 3) {a0 : Nat} {x1 : Int} {x2 : Int} {μ : Me} (h : s_X11_numberOf a0 x1 x2 μ = some w) (hK : w = fin) : WL Z (QN Z (some (vI fin.1)) fin.2) μ 0 [(0, vO a0), (1, vI x1), (2, vI x2)] [] := by
  unfold s_X11_numberOf at h
  refine r_aload_n C 0 dX11_numberOf_0 rfl rfl ?_
  obtain ⟨v1, ev1, h⟩ := bs h
  refine r_getR C (c := 9) (r := (RX11, TX11, 38)) rfl 1 (by decide) rfl ev1 q1314 dX11_numberOf_1 ?_
  refine r_iload_n C 1 dX11_numberOf_4 rfl rfl ?_
  obtain ⟨q2, eq2, h⟩ := bs h
  refine r_callS C (As := [vI x1]) (rest := [vO v1]) (st1 := [vI q2.1, vO v1]) (v := some (vI q2.1)) (m_X11_formAt C.tr eq2) (lw_S q1515 q1516 q133 q1517) hdX11_formAt rfl rfl (Nat.le_of_ble_eq_true rfl) ⟨by decide, by decide⟩ dX11_numberOf_5 rfl ?_
  refine r_iconst C dX11_numberOf_8 ?_
  refine r_iadd C dX11_numberOf_9 ?_
  refine r_iload_n C 2 dX11_numberOf_10 rfl rfl ?_
  refine r_iadd C dX11_numberOf_11 ?_
  obtain ⟨v3, ev3, h⟩ := bs h
  refine r_iald C ev3 dX11_numberOf_12 ?_
  cases h
  exact r_iret C hK dX11_numberOf_13
theorem hdX11_numberOf : zhd yX11_numberOf 2 := by decide +kernel
theorem m_X11_numberOf {l : Launch} {D : va_G} {b0 : Nat} (hl : l.stackTraces = false) {a0 : Nat} {x1 : Int} {x2 : Int} {μ : Me} {w : Int × Me} (h : s_X11_numberOf a0 x1 x2 μ = some w) : MN l D b0 yX11_numberOf (ws_ yX11_numberOf cX11_numberOf 3 (some .int)) 2 [vO a0, vI x1, vI x2] μ (some (vI w.1)) w.2 :=
  MN.of hl (by decide +kernel) (Nat.le_of_ble_eq_true rfl) (fun Z C _ _ => w_X11_numberOf C h rfl)
noncomputable def s_X11_look (a0 : Nat) (x1 : Int) (x2 : Int) (μ : Me) : Option (Int × Me) :=
  (pI μ 9 a0 0 0).bind fun m1 =>
  (ck m1 9 a0).bind fun _ =>
  (s_X11_noForm a0 x1 m1).bind fun q2 =>
  (ck q2.2 9 a0).bind fun _ =>
  (s_X11_throwsIf a0 q2.1 1 q2.2).bind fun q4 =>
  (if w32 q4.1 = 0 then
  (if w32 x2 = w32 (-1) then
  (ck q4.2 9 a0).bind fun _ =>
  (s_X11_degreeOf a0 x1 q4.2).bind fun q14 =>
  some (q14.1, q14.2)
  else
  (ck q4.2 9 a0).bind fun _ =>
  (s_X11_degreeOf a0 x1 q4.2).bind fun q8 =>
  (s_X11_in x2 0 q8.1 q8.2).bind fun q10 =>
  (if w32 q10.1 = 0 then
  some ((-1), q10.2)
  else
  (ck q10.2 9 a0).bind fun _ =>
  (s_X11_numberOf a0 x1 x2 q10.2).bind fun q12 =>
  some (q12.1, q12.2)))
  else
  some (0, q4.2))
theorem w_X11_look {Z : Zt} {fin : Int × Me} {w : Int × Me} (C : CX Z yX11_look cX11_look (some .int) 3 3) {a0 : Nat} {x1 : Int} {x2 : Int} {μ : Me} (h : s_X11_look a0 x1 x2 μ = some w) (hK : w = fin) : WL Z (QN Z (some (vI fin.1)) fin.2) μ 0 [(0, vO a0), (1, vI x1), (2, vI x2)] [] := by
  unfold s_X11_look at h
  refine r_aload_n C 0 dX11_look_0 rfl rfl ?_
  refine r_iconst C dX11_look_1 ?_
  obtain ⟨m1, em1, h⟩ := bs h
  refine r_putI C (c := 9) (r := (RX11, TX11, 38)) rfl 0 (by decide) rfl ⟨rfl, rfl⟩ rfl em1 q1313 dX11_look_2 ?_
  refine r_aload_n C 0 dX11_look_5 rfl rfl ?_
  refine r_aload_n C 0 dX11_look_6 rfl rfl ?_
  refine r_iload_n C 1 dX11_look_7 rfl rfl ?_
  obtain ⟨u3, eu3, h⟩ := bs h
  obtain ⟨q2, eq2, h⟩ := bs h
  refine r_callV C (As := [vI x1]) (b := a0) (rest := [vO a0]) (st1 := [vI q2.1, vO a0]) (v := some (vI q2.1)) (r := (RX11, TX11, 38)) (ci := 9) rfl eu3 (m_X11_noForm C.tr eq2) (lw_V q1601 q1603 qs64 q133 q1604) rfl hdX11_noForm rfl rfl (Nat.le_of_ble_eq_true rfl) ⟨by decide, by decide⟩ dX11_look_8 rfl ?_
  refine r_iconst C dX11_look_11 ?_
  obtain ⟨u5, eu5, h⟩ := bs h
  obtain ⟨q4, eq4, h⟩ := bs h
  refine r_callV C (As := [vI q2.1, vI 1]) (b := a0) (rest := []) (st1 := [vI q4.1]) (v := some (vI q4.1)) (r := (RX11, TX11, 38)) (ci := 9) rfl eu5 (m_X11_throwsIf C.tr eq4) (lw_V q1500 q1502 qs49 q133 q1503) rfl hdX11_throwsIf rfl rfl (Nat.le_of_ble_eq_true rfl) ⟨by decide, by decide⟩ dX11_look_12 rfl ?_
  refine r_if_eq C dX11_look_15 (tgt := 20) (by decide) (fun c6 => ?_) (fun c6 => ?_)
  · have h := it_ h c6
    refine r_iload_n C 2 dX11_look_20 rfl rfl ?_
    refine r_iconst C dX11_look_21 ?_
    refine r_icmp_ne C dX11_look_22 (tgt := 33) (by decide) (fun c7 => ?_) (fun c7 => ?_)
    · have h := ie_ h c7
      refine r_iload_n C 2 dX11_look_33 rfl rfl ?_
      refine r_iconst C dX11_look_34 ?_
      refine r_aload_n C 0 dX11_look_35 rfl rfl ?_
      refine r_iload_n C 1 dX11_look_36 rfl rfl ?_
      obtain ⟨u9, eu9, h⟩ := bs h
      obtain ⟨q8, eq8, h⟩ := bs h
      refine r_callV C (As := [vI x1]) (b := a0) (rest := [vI 0, vI x2]) (st1 := [vI q8.1, vI 0, vI x2]) (v := some (vI q8.1)) (r := (RX11, TX11, 38)) (ci := 9) rfl eu9 (m_X11_degreeOf C.tr eq8) (lw_V q1605 q1607 qs65 q133 q1608) rfl hdX11_degreeOf rfl rfl (Nat.le_of_ble_eq_true rfl) ⟨by decide, by decide⟩ dX11_look_37 rfl ?_
      obtain ⟨q10, eq10, h⟩ := bs h
      refine r_callS C (As := [vI x2, vI 0, vI q8.1]) (rest := []) (st1 := [vI q10.1]) (v := some (vI q10.1)) (m_X11_in C.tr eq10) (lw_S q1512 q1513 q133 q1514) hdX11_in rfl rfl (Nat.le_of_ble_eq_true rfl) ⟨by decide, by decide⟩ dX11_look_40 rfl ?_
      refine r_if_eq C dX11_look_43 (tgt := 55) (by decide) (fun c11 => ?_) (fun c11 => ?_)
      · have h := it_ h c11
        refine r_iconst C dX11_look_55 ?_
        cases h
        exact r_iret C hK dX11_look_56
      · have h := ie_ h c11
        refine r_aload_n C 0 dX11_look_46 rfl rfl ?_
        refine r_iload_n C 1 dX11_look_47 rfl rfl ?_
        refine r_iload_n C 2 dX11_look_48 rfl rfl ?_
        obtain ⟨u13, eu13, h⟩ := bs h
        obtain ⟨q12, eq12, h⟩ := bs h
        refine r_callV C (As := [vI x1, vI x2]) (b := a0) (rest := []) (st1 := [vI q12.1]) (v := some (vI q12.1)) (r := (RX11, TX11, 38)) (ci := 9) rfl eu13 (m_X11_numberOf C.tr eq12) (lw_V q1609 q1611 qs66 q133 q1612) rfl hdX11_numberOf rfl rfl (Nat.le_of_ble_eq_true rfl) ⟨by decide, by decide⟩ dX11_look_49 rfl ?_
        refine r_goto C dX11_look_52 (tgt := 56) (by decide) ?_
        cases h
        exact r_iret C hK dX11_look_56
    · have h := it_ h c7
      refine r_aload_n C 0 dX11_look_25 rfl rfl ?_
      refine r_iload_n C 1 dX11_look_26 rfl rfl ?_
      obtain ⟨u15, eu15, h⟩ := bs h
      obtain ⟨q14, eq14, h⟩ := bs h
      refine r_callV C (As := [vI x1]) (b := a0) (rest := []) (st1 := [vI q14.1]) (v := some (vI q14.1)) (r := (RX11, TX11, 38)) (ci := 9) rfl eu15 (m_X11_degreeOf C.tr eq14) (lw_V q1605 q1607 qs65 q133 q1608) rfl hdX11_degreeOf rfl rfl (Nat.le_of_ble_eq_true rfl) ⟨by decide, by decide⟩ dX11_look_27 rfl ?_
      refine r_goto C dX11_look_30 (tgt := 56) (by decide) ?_
      cases h
      exact r_iret C hK dX11_look_56
  · have h := ie_ h c6
    refine r_iconst C dX11_look_18 ?_
    cases h
    exact r_iret C hK dX11_look_19
theorem hdX11_look : zhd yX11_look 2 := by decide +kernel
theorem m_X11_look {l : Launch} {D : va_G} {b0 : Nat} (hl : l.stackTraces = false) {a0 : Nat} {x1 : Int} {x2 : Int} {μ : Me} {w : Int × Me} (h : s_X11_look a0 x1 x2 μ = some w) : MN l D b0 yX11_look (ws_ yX11_look cX11_look 3 (some .int)) 3 [vO a0, vI x1, vI x2] μ (some (vI w.1)) w.2 :=
  MN.of hl (by decide +kernel) (Nat.le_of_ble_eq_true rfl) (fun Z C _ _ => w_X11_look C h rfl)
noncomputable def s_X11_put (a0 : Nat) (x1 : Int) (x2 : Int) (x3 : Int) (μ : Me) : Option (Me) :=
  (gR μ 9 a0 5).bind fun v1 =>
  (uI μ v1 ((41 * x1) + x2) x3).bind fun m2 =>
  some m2
theorem w_X11_put {Z : Zt} {fin : Me} {w : Me} (C : CX Z yX11_put cX11_put none 1 4) {a0 : Nat} {x1 : Int} {x2 : Int} {x3 : Int} {μ : Me} (h : s_X11_put a0 x1 x2 x3 μ = some w) (hK : w = fin) : WL Z (QN Z none fin) μ 0 [(0, vO a0), (1, vI x1), (2, vI x2), (3, vI x3)] [] := by
  unfold s_X11_put at h
  refine r_aload_n C 0 dX11_put_0 rfl rfl ?_
  obtain ⟨v1, ev1, h⟩ := bs h
  refine r_getR C (c := 9) (r := (RX11, TX11, 38)) rfl 5 (by decide) rfl ev1 q1318 dX11_put_1 ?_
  refine r_bipush C dX11_put_4 (by decide) ?_
  refine r_iload_n C 1 dX11_put_6 rfl rfl ?_
  refine r_imul C dX11_put_7 ?_
  refine r_iload_n C 2 dX11_put_8 rfl rfl ?_
  refine r_iadd C dX11_put_9 ?_
  refine r_iload_n C 3 dX11_put_10 rfl rfl ?_
  obtain ⟨m2, em2, h⟩ := bs h
  refine r_iast C em2 dX11_put_11 ?_
  cases h
  exact r_vret C hK dX11_put_12
theorem hdX11_put : zhd yX11_put 3 := by decide +kernel
theorem m_X11_put {l : Launch} {D : va_G} {b0 : Nat} (hl : l.stackTraces = false) {a0 : Nat} {x1 : Int} {x2 : Int} {x3 : Int} {μ : Me} {w : Me} (h : s_X11_put a0 x1 x2 x3 μ = some w) : MN l D b0 yX11_put (ws_ yX11_put cX11_put 4 none) 1 [vO a0, vI x1, vI x2, vI x3] μ none w :=
  MN.of hl (by decide +kernel) (Nat.le_of_ble_eq_true rfl) (fun Z C _ _ => w_X11_put C h rfl)
noncomputable def s_X11_takes_l13_st (a0 : Nat) (x1 : Int) (x2 : Int) (x3 : Int) (μ : Me) : Option ((Int × Me) ⊕ (Me)) :=
  (gR μ 9 a0 4).bind fun v5 =>
  (aI μ 101 v5 x1).bind fun v6 =>
  (if w32 v6 < w32 x3 then
  some (.inr μ)
  else
  (ck μ 9 a0).bind fun _ =>
  (s_X11_numberOf a0 x2 x3 μ).bind fun q8 =>
  (ck q8.2 9 a0).bind fun _ =>
  (s_X11_put a0 x1 x3 q8.1 q8.2).bind fun q10 =>
  some (.inl ((x3 + 1), q10)))
theorem w_X11_takes_l13_st {Z : Zt} {fin : Me} {w : ((Int × Me) ⊕ (Me))} (C : CX Z yX11_takes cX11_takes none 3 4) {a0 : Nat} {x1 : Int} {x2 : Int} {x3 : Int} {μ : Me} (h : s_X11_takes_l13_st a0 x1 x2 x3 μ = some w) (hK : (Sum.elim (fun s : Int × Me => WL Z (QN Z none fin) s.2 13 [(0, vO a0), (1, vI x1), (2, vI x2), (3, vI s.1)] []) (fun r : Me => r = fin)) w) : WL Z (QN Z none fin) μ 13 [(0, vO a0), (1, vI x1), (2, vI x2), (3, vI x3)] [] := by
  unfold s_X11_takes_l13_st at h
  refine r_iload_n C 3 dX11_takes_13 rfl rfl ?_
  refine r_aload_n C 0 dX11_takes_14 rfl rfl ?_
  obtain ⟨v5, ev5, h⟩ := bs h
  refine r_getR C (c := 9) (r := (RX11, TX11, 38)) rfl 4 (by decide) rfl ev5 q1317 dX11_takes_15 ?_
  refine r_iload_n C 1 dX11_takes_18 rfl rfl ?_
  obtain ⟨v6, ev6, h⟩ := bs h
  refine r_iald C ev6 dX11_takes_19 ?_
  refine r_icmp_gt C dX11_takes_20 (tgt := 41) (by decide) (fun c7 => ?_) (fun c7 => ?_)
  · have h := it_ h c7
    cases h
    exact r_vret C hK dX11_takes_41
  · have h := ie_ h c7
    refine r_aload_n C 0 dX11_takes_23 rfl rfl ?_
    refine r_iload_n C 1 dX11_takes_24 rfl rfl ?_
    refine r_iload_n C 3 dX11_takes_25 rfl rfl ?_
    refine r_aload_n C 0 dX11_takes_26 rfl rfl ?_
    refine r_iload_n C 2 dX11_takes_27 rfl rfl ?_
    refine r_iload_n C 3 dX11_takes_28 rfl rfl ?_
    obtain ⟨u9, eu9, h⟩ := bs h
    obtain ⟨q8, eq8, h⟩ := bs h
    refine r_callV C (As := [vI x2, vI x3]) (b := a0) (rest := [vI x3, vI x1, vO a0]) (st1 := [vI q8.1, vI x3, vI x1, vO a0]) (v := some (vI q8.1)) (r := (RX11, TX11, 38)) (ci := 9) rfl eu9 (m_X11_numberOf C.tr eq8) (lw_V q1609 q1611 qs66 q133 q1612) rfl hdX11_numberOf rfl rfl (Nat.le_of_ble_eq_true rfl) ⟨by decide, by decide⟩ dX11_takes_29 rfl ?_
    obtain ⟨u11, eu11, h⟩ := bs h
    obtain ⟨q10, eq10, h⟩ := bs h
    refine r_callV C (As := [vI x1, vI x3, vI q8.1]) (b := a0) (rest := []) (st1 := []) (v := none) (r := (RX11, TX11, 38)) (ci := 9) rfl eu11 (m_X11_put C.tr eq10) (lw_V q1621 q1623 qs68 q133 q1624) rfl hdX11_put rfl rfl (Nat.le_of_ble_eq_true rfl) ⟨by decide, by decide⟩ dX11_takes_32 rfl ?_
    refine r_iinc C 3 [(3, vI (x3 + 1)), (0, vO a0), (1, vI x1), (2, vI x2)] dX11_takes_35 rfl (by decide) rfl ?_
    refine r_goto C dX11_takes_38 (tgt := 13) (by decide) ?_
    cases h
    refine r_sub [1, 2, 3, 0] rfl ?_
    exact hK
noncomputable def s_X11_takes_l13 (a0 : Nat) (x1 : Int) (x2 : Int) (x3 : Int) (μ : Me) : Option (Me) :=
  whileO (fun s : Int × Me => s_X11_takes_l13_st a0 x1 x2 s.1 s.2) (x3, μ)
theorem e_X11_takes_l13 (a0 : Nat) (x1 : Int) (x2 : Int) (x3 : Int) (μ : Me) : s_X11_takes_l13 a0 x1 x2 x3 μ = (s_X11_takes_l13_st a0 x1 x2 x3 μ).bind fun x => x.elim (fun s : Int × Me => s_X11_takes_l13 a0 x1 x2 s.1 s.2) some := whileO_eq _ _
theorem w_X11_takes_l13 {Z : Zt} {fin : Me} {w : (Me)} (C : CX Z yX11_takes cX11_takes none 3 4) {a0 : Nat} {x1 : Int} {x2 : Int} {x3 : Int} {μ : Me} (h : s_X11_takes_l13 a0 x1 x2 x3 μ = some w) (hK : (fun r : Me => r = fin) w) : WL Z (QN Z none fin) μ 13 [(0, vO a0), (1, vI x1), (2, vI x2), (3, vI x3)] [] := by
  refine whileO_walk (w := w) (fun s : Int × Me => WL Z (QN Z none fin) s.2 13 [(0, vO a0), (1, vI x1), (2, vI x2), (3, vI s.1)] []) (fun s v h2 hi hr => ?_) (x3, μ) h
  refine w_X11_takes_l13_st (fin := fin) C h2 ?_
  cases v with
  | inl s2 => exact hi s2 rfl
  | inr r => have e := hr r rfl; subst e; exact hK
noncomputable def s_X11_takes (a0 : Nat) (x1 : Int) (x2 : Int) (μ : Me) : Option (Me) :=
  (gR μ 9 a0 4).bind fun v1 =>
  (ck μ 9 a0).bind fun _ =>
  (s_X11_degreeOf a0 x2 μ).bind fun q2 =>
  (uI q2.2 v1 x1 q2.1).bind fun m4 =>
  s_X11_takes_l13 a0 x1 x2 0 m4
theorem w_X11_takes {Z : Zt} {fin : Me} {w : Me} (C : CX Z yX11_takes cX11_takes none 3 4) {a0 : Nat} {x1 : Int} {x2 : Int} {μ : Me} (h : s_X11_takes a0 x1 x2 μ = some w) (hK : w = fin) : WL Z (QN Z none fin) μ 0 [(0, vO a0), (1, vI x1), (2, vI x2)] [] := by
  unfold s_X11_takes at h
  refine r_aload_n C 0 dX11_takes_0 rfl rfl ?_
  obtain ⟨v1, ev1, h⟩ := bs h
  refine r_getR C (c := 9) (r := (RX11, TX11, 38)) rfl 4 (by decide) rfl ev1 q1317 dX11_takes_1 ?_
  refine r_iload_n C 1 dX11_takes_4 rfl rfl ?_
  refine r_aload_n C 0 dX11_takes_5 rfl rfl ?_
  refine r_iload_n C 2 dX11_takes_6 rfl rfl ?_
  obtain ⟨u3, eu3, h⟩ := bs h
  obtain ⟨q2, eq2, h⟩ := bs h
  refine r_callV C (As := [vI x2]) (b := a0) (rest := [vI x1, vO v1]) (st1 := [vI q2.1, vI x1, vO v1]) (v := some (vI q2.1)) (r := (RX11, TX11, 38)) (ci := 9) rfl eu3 (m_X11_degreeOf C.tr eq2) (lw_V q1605 q1607 qs65 q133 q1608) rfl hdX11_degreeOf rfl rfl (Nat.le_of_ble_eq_true rfl) ⟨by decide, by decide⟩ dX11_takes_7 rfl ?_
  obtain ⟨m4, em4, h⟩ := bs h
  refine r_iast C em4 dX11_takes_10 ?_
  refine r_iconst C dX11_takes_11 ?_
  refine r_istore_n C [(3, vI 0), (0, vO a0), (1, vI x1), (2, vI x2)] dX11_takes_12 rfl (by decide) rfl ?_
  refine r_sub [1, 2, 3, 0] rfl ?_
  exact w_X11_takes_l13 (fin := fin) C h hK
theorem hdX11_takes : zhd yX11_takes 2 := by decide +kernel
theorem m_X11_takes {l : Launch} {D : va_G} {b0 : Nat} (hl : l.stackTraces = false) {a0 : Nat} {x1 : Int} {x2 : Int} {μ : Me} {w : Me} (h : s_X11_takes a0 x1 x2 μ = some w) : MN l D b0 yX11_takes (ws_ yX11_takes cX11_takes 4 none) 3 [vO a0, vI x1, vI x2] μ none w :=
  MN.of hl (by decide +kernel) (Nat.le_of_ble_eq_true rfl) (fun Z C _ _ => w_X11_takes C h rfl)
noncomputable def s_X11_of (a0 : Nat) (x1 : Int) (x2 : Int) (μ : Me) : Option (Int × Me) :=
  (gR μ 9 a0 5).bind fun v1 =>
  (aI μ 101 v1 ((41 * x1) + x2)).bind fun v2 =>
  some (v2, μ)
theorem w_X11_of {Z : Zt} {fin : Int × Me} {w : Int × Me} (C : CX Z yX11_of cX11_of (some .int) 1 3) {a0 : Nat} {x1 : Int} {x2 : Int} {μ : Me} (h : s_X11_of a0 x1 x2 μ = some w) (hK : w = fin) : WL Z (QN Z (some (vI fin.1)) fin.2) μ 0 [(0, vO a0), (1, vI x1), (2, vI x2)] [] := by
  unfold s_X11_of at h
  refine r_aload_n C 0 dX11_of_0 rfl rfl ?_
  obtain ⟨v1, ev1, h⟩ := bs h
  refine r_getR C (c := 9) (r := (RX11, TX11, 38)) rfl 5 (by decide) rfl ev1 q1318 dX11_of_1 ?_
  refine r_bipush C dX11_of_4 (by decide) ?_
  refine r_iload_n C 1 dX11_of_6 rfl rfl ?_
  refine r_imul C dX11_of_7 ?_
  refine r_iload_n C 2 dX11_of_8 rfl rfl ?_
  refine r_iadd C dX11_of_9 ?_
  obtain ⟨v2, ev2, h⟩ := bs h
  refine r_iald C ev2 dX11_of_10 ?_
  cases h
  exact r_iret C hK dX11_of_11
theorem hdX11_of : zhd yX11_of 2 := by decide +kernel
theorem m_X11_of {l : Launch} {D : va_G} {b0 : Nat} (hl : l.stackTraces = false) {a0 : Nat} {x1 : Int} {x2 : Int} {μ : Me} {w : Int × Me} (h : s_X11_of a0 x1 x2 μ = some w) : MN l D b0 yX11_of (ws_ yX11_of cX11_of 3 (some .int)) 1 [vO a0, vI x1, vI x2] μ (some (vI w.1)) w.2 :=
  MN.of hl (by decide +kernel) (Nat.le_of_ble_eq_true rfl) (fun Z C _ _ => w_X11_of C h rfl)
noncomputable def s_X11_valueAt_l6_st (a0 : Nat) (x1 : Int) (x2 : Int) (x3 : Int) (x4 : Int) (x5 : Int) (μ : Me) : Option ((Int × Int × Me) ⊕ (Int × Me)) :=
  (gR μ 9 a0 4).bind fun v1 =>
  (aI μ 101 v1 x1).bind fun v2 =>
  (if w32 v2 < w32 x5 then
  some (.inr (x4, μ))
  else
  (ck μ 9 a0).bind fun _ =>
  (s_X11_of a0 x1 x5 μ).bind fun q4 =>
  (gR q4.2 9 a0 4).bind fun v6 =>
  (aI q4.2 101 v6 x1).bind fun v7 =>
  (ck q4.2 9 a0).bind fun _ =>
  (s_X11_power a0 x2 (v7 - x5) q4.2).bind fun q8 =>
  (ck q8.2 9 a0).bind fun _ =>
  (s_X11_power a0 x3 x5 q8.2).bind fun q10 =>
  (ck q10.2 9 a0).bind fun _ =>
  (s_X11_times a0 q8.1 q10.1 q10.2).bind fun q12 =>
  (ck q12.2 9 a0).bind fun _ =>
  (s_X11_times a0 q4.1 q12.1 q12.2).bind fun q14 =>
  (ck q14.2 9 a0).bind fun _ =>
  (s_X11_plus a0 x4 q14.1 q14.2).bind fun q16 =>
  some (.inl (q16.1, (x5 + 1), q16.2)))
theorem w_X11_valueAt_l6_st {Z : Zt} {fin : Int × Me} {w : ((Int × Int × Me) ⊕ (Int × Me))} (C : CX Z yX11_valueAt cX11_valueAt (some .int) 4 6) {a0 : Nat} {x1 : Int} {x2 : Int} {x3 : Int} {x4 : Int} {x5 : Int} {μ : Me} (h : s_X11_valueAt_l6_st a0 x1 x2 x3 x4 x5 μ = some w) (hK : (Sum.elim (fun s : Int × Int × Me => WL Z (QN Z (some (vI fin.1)) fin.2) s.2.2 6 [(0, vO a0), (1, vI x1), (2, vI x2), (3, vI x3), (4, vI s.1), (5, vI s.2.1)] []) (fun r : Int × Me => r = fin)) w) : WL Z (QN Z (some (vI fin.1)) fin.2) μ 6 [(0, vO a0), (1, vI x1), (2, vI x2), (3, vI x3), (4, vI x4), (5, vI x5)] [] := by
  unfold s_X11_valueAt_l6_st at h
  refine r_iload C 5 dX11_valueAt_6 rfl ?_
  refine r_aload_n C 0 dX11_valueAt_8 rfl rfl ?_
  obtain ⟨v1, ev1, h⟩ := bs h
  refine r_getR C (c := 9) (r := (RX11, TX11, 38)) rfl 4 (by decide) rfl ev1 q1317 dX11_valueAt_9 ?_
  refine r_iload_n C 1 dX11_valueAt_12 rfl rfl ?_
  obtain ⟨v2, ev2, h⟩ := bs h
  refine r_iald C ev2 dX11_valueAt_13 ?_
  refine r_icmp_gt C dX11_valueAt_14 (tgt := 67) (by decide) (fun c3 => ?_) (fun c3 => ?_)
  · have h := it_ h c3
    refine r_iload C 4 dX11_valueAt_67 rfl ?_
    cases h
    exact r_iret C hK dX11_valueAt_69
  · have h := ie_ h c3
    refine r_aload_n C 0 dX11_valueAt_17 rfl rfl ?_
    refine r_iload C 4 dX11_valueAt_18 rfl ?_
    refine r_aload_n C 0 dX11_valueAt_20 rfl rfl ?_
    refine r_aload_n C 0 dX11_valueAt_21 rfl rfl ?_
    refine r_iload_n C 1 dX11_valueAt_22 rfl rfl ?_
    refine r_iload C 5 dX11_valueAt_23 rfl ?_
    obtain ⟨u5, eu5, h⟩ := bs h
    obtain ⟨q4, eq4, h⟩ := bs h
    refine r_callV C (As := [vI x1, vI x5]) (b := a0) (rest := [vO a0, vI x4, vO a0]) (st1 := [vI q4.1, vO a0, vI x4, vO a0]) (v := some (vI q4.1)) (r := (RX11, TX11, 38)) (ci := 9) rfl eu5 (m_X11_of C.tr eq4) (lw_V q1629 q1631 qs70 q133 q1632) rfl hdX11_of rfl rfl (Nat.le_of_ble_eq_true rfl) ⟨by decide, by decide⟩ dX11_valueAt_25 rfl ?_
    refine r_aload_n C 0 dX11_valueAt_28 rfl rfl ?_
    refine r_aload_n C 0 dX11_valueAt_29 rfl rfl ?_
    refine r_iload_n C 2 dX11_valueAt_30 rfl rfl ?_
    refine r_aload_n C 0 dX11_valueAt_31 rfl rfl ?_
    obtain ⟨v6, ev6, h⟩ := bs h
    refine r_getR C (c := 9) (r := (RX11, TX11, 38)) rfl 4 (by decide) rfl ev6 q1317 dX11_valueAt_32 ?_
    refine r_iload_n C 1 dX11_valueAt_35 rfl rfl ?_
    obtain ⟨v7, ev7, h⟩ := bs h
    refine r_iald C ev7 dX11_valueAt_36 ?_
    refine r_iload C 5 dX11_valueAt_37 rfl ?_
    refine r_isub C dX11_valueAt_39 ?_
    obtain ⟨u9, eu9, h⟩ := bs h
    obtain ⟨q8, eq8, h⟩ := bs h
    refine r_callV C (As := [vI x2, vI (v7 - x5)]) (b := a0) (rest := [vO a0, vI q4.1, vO a0, vI x4, vO a0]) (st1 := [vI q8.1, vO a0, vI q4.1, vO a0, vI x4, vO a0]) (v := some (vI q8.1)) (r := (RX11, TX11, 38)) (ci := 9) rfl eu9 (m_X11_power C.tr eq8) (lw_V q1585 q1587 qs63 q133 q1588) rfl hdX11_power rfl rfl (Nat.le_of_ble_eq_true rfl) ⟨by decide, by decide⟩ dX11_valueAt_40 rfl ?_
    refine r_aload_n C 0 dX11_valueAt_43 rfl rfl ?_
    refine r_iload_n C 3 dX11_valueAt_44 rfl rfl ?_
    refine r_iload C 5 dX11_valueAt_45 rfl ?_
    obtain ⟨u11, eu11, h⟩ := bs h
    obtain ⟨q10, eq10, h⟩ := bs h
    refine r_callV C (As := [vI x3, vI x5]) (b := a0) (rest := [vI q8.1, vO a0, vI q4.1, vO a0, vI x4, vO a0]) (st1 := [vI q10.1, vI q8.1, vO a0, vI q4.1, vO a0, vI x4, vO a0]) (v := some (vI q10.1)) (r := (RX11, TX11, 38)) (ci := 9) rfl eu11 (m_X11_power C.tr eq10) (lw_V q1585 q1587 qs63 q133 q1588) rfl hdX11_power rfl rfl (Nat.le_of_ble_eq_true rfl) ⟨by decide, by decide⟩ dX11_valueAt_47 rfl ?_
    obtain ⟨u13, eu13, h⟩ := bs h
    obtain ⟨q12, eq12, h⟩ := bs h
    refine r_callV C (As := [vI q8.1, vI q10.1]) (b := a0) (rest := [vI q4.1, vO a0, vI x4, vO a0]) (st1 := [vI q12.1, vI q4.1, vO a0, vI x4, vO a0]) (v := some (vI q12.1)) (r := (RX11, TX11, 38)) (ci := 9) rfl eu13 (m_X11_times C.tr eq12) (lw_V q1541 q1543 qs54 q133 q1544) rfl hdX11_times rfl rfl (Nat.le_of_ble_eq_true rfl) ⟨by decide, by decide⟩ dX11_valueAt_50 rfl ?_
    obtain ⟨u15, eu15, h⟩ := bs h
    obtain ⟨q14, eq14, h⟩ := bs h
    refine r_callV C (As := [vI q4.1, vI q12.1]) (b := a0) (rest := [vI x4, vO a0]) (st1 := [vI q14.1, vI x4, vO a0]) (v := some (vI q14.1)) (r := (RX11, TX11, 38)) (ci := 9) rfl eu15 (m_X11_times C.tr eq14) (lw_V q1541 q1543 qs54 q133 q1544) rfl hdX11_times rfl rfl (Nat.le_of_ble_eq_true rfl) ⟨by decide, by decide⟩ dX11_valueAt_53 rfl ?_
    obtain ⟨u17, eu17, h⟩ := bs h
    obtain ⟨q16, eq16, h⟩ := bs h
    refine r_callV C (As := [vI x4, vI q14.1]) (b := a0) (rest := []) (st1 := [vI q16.1]) (v := some (vI q16.1)) (r := (RX11, TX11, 38)) (ci := 9) rfl eu17 (m_X11_plus C.tr eq16) (lw_V q1569 q1571 qs60 q133 q1572) rfl hdX11_plus rfl rfl (Nat.le_of_ble_eq_true rfl) ⟨by decide, by decide⟩ dX11_valueAt_56 rfl ?_
    refine r_istore C [(4, vI q16.1), (0, vO a0), (1, vI x1), (2, vI x2), (3, vI x3), (5, vI x5)] dX11_valueAt_59 (by decide) rfl ?_
    refine r_iinc C 5 [(5, vI (x5 + 1)), (4, vI q16.1), (0, vO a0), (1, vI x1), (2, vI x2), (3, vI x3)] dX11_valueAt_61 rfl (by decide) rfl ?_
    refine r_goto C dX11_valueAt_64 (tgt := 6) (by decide) ?_
    cases h
    refine r_sub [2, 3, 4, 5, 1, 0] rfl ?_
    exact hK
noncomputable def s_X11_valueAt_l6 (a0 : Nat) (x1 : Int) (x2 : Int) (x3 : Int) (x4 : Int) (x5 : Int) (μ : Me) : Option (Int × Me) :=
  whileO (fun s : Int × Int × Me => s_X11_valueAt_l6_st a0 x1 x2 x3 s.1 s.2.1 s.2.2) (x4, x5, μ)
theorem e_X11_valueAt_l6 (a0 : Nat) (x1 : Int) (x2 : Int) (x3 : Int) (x4 : Int) (x5 : Int) (μ : Me) : s_X11_valueAt_l6 a0 x1 x2 x3 x4 x5 μ = (s_X11_valueAt_l6_st a0 x1 x2 x3 x4 x5 μ).bind fun x => x.elim (fun s : Int × Int × Me => s_X11_valueAt_l6 a0 x1 x2 x3 s.1 s.2.1 s.2.2) some := whileO_eq _ _
theorem w_X11_valueAt_l6 {Z : Zt} {fin : Int × Me} {w : (Int × Me)} (C : CX Z yX11_valueAt cX11_valueAt (some .int) 4 6) {a0 : Nat} {x1 : Int} {x2 : Int} {x3 : Int} {x4 : Int} {x5 : Int} {μ : Me} (h : s_X11_valueAt_l6 a0 x1 x2 x3 x4 x5 μ = some w) (hK : (fun r : Int × Me => r = fin) w) : WL Z (QN Z (some (vI fin.1)) fin.2) μ 6 [(0, vO a0), (1, vI x1), (2, vI x2), (3, vI x3), (4, vI x4), (5, vI x5)] [] := by
  refine whileO_walk (w := w) (fun s : Int × Int × Me => WL Z (QN Z (some (vI fin.1)) fin.2) s.2.2 6 [(0, vO a0), (1, vI x1), (2, vI x2), (3, vI x3), (4, vI s.1), (5, vI s.2.1)] []) (fun s v h2 hi hr => ?_) (x4, x5, μ) h
  refine w_X11_valueAt_l6_st (fin := fin) C h2 ?_
  cases v with
  | inl s2 => exact hi s2 rfl
  | inr r => have e := hr r rfl; subst e; exact hK
noncomputable def s_X11_valueAt (a0 : Nat) (x1 : Int) (x2 : Int) (x3 : Int) (μ : Me) : Option (Int × Me) :=
  s_X11_valueAt_l6 a0 x1 x2 x3 0 0 μ
theorem w_X11_valueAt {Z : Zt} {fin : Int × Me} {w : Int × Me} (C : CX Z yX11_valueAt cX11_valueAt (some .int) 4 6) {a0 : Nat} {x1 : Int} {x2 : Int} {x3 : Int} {μ : Me} (h : s_X11_valueAt a0 x1 x2 x3 μ = some w) (hK : w = fin) : WL Z (QN Z (some (vI fin.1)) fin.2) μ 0 [(0, vO a0), (1, vI x1), (2, vI x2), (3, vI x3)] [] := by
  unfold s_X11_valueAt at h
  refine r_iconst C dX11_valueAt_0 ?_
  refine r_istore C [(4, vI 0), (0, vO a0), (1, vI x1), (2, vI x2), (3, vI x3)] dX11_valueAt_1 (by decide) rfl ?_
  refine r_iconst C dX11_valueAt_3 ?_
  refine r_istore C [(5, vI 0), (4, vI 0), (0, vO a0), (1, vI x1), (2, vI x2), (3, vI x3)] dX11_valueAt_4 (by decide) rfl ?_
  refine r_sub [2, 3, 4, 5, 1, 0] rfl ?_
  exact w_X11_valueAt_l6 (fin := fin) C h hK
theorem hdX11_valueAt : zhd yX11_valueAt 3 := by decide +kernel
theorem m_X11_valueAt {l : Launch} {D : va_G} {b0 : Nat} (hl : l.stackTraces = false) {a0 : Nat} {x1 : Int} {x2 : Int} {x3 : Int} {μ : Me} {w : Int × Me} (h : s_X11_valueAt a0 x1 x2 x3 μ = some w) : MN l D b0 yX11_valueAt (ws_ yX11_valueAt cX11_valueAt 6 (some .int)) 4 [vO a0, vI x1, vI x2, vI x3] μ (some (vI w.1)) w.2 :=
  MN.of hl (by decide +kernel) (Nat.le_of_ble_eq_true rfl) (fun Z C _ _ => w_X11_valueAt C h rfl)
noncomputable def s_X11_at (a0 : Nat) (x1 : Int) (x2 : Int) (x3 : Int) (μ : Me) : Option (Int × Me) :=
  (pI μ 9 a0 0 0).bind fun m1 =>
  (ck m1 9 a0).bind fun _ =>
  (s_X11_noForm a0 x1 m1).bind fun q2 =>
  (ck q2.2 9 a0).bind fun _ =>
  (s_X11_throwsIf a0 q2.1 1 q2.2).bind fun q4 =>
  (if w32 q4.1 = 0 then
  (ck q4.2 9 a0).bind fun _ =>
  (s_X11_takes a0 40 x1 q4.2).bind fun q7 =>
  (ck q7 9 a0).bind fun _ =>
  (s_X11_mod a0 (w32 x2) q7).bind fun q9 =>
  (ck q9.2 9 a0).bind fun _ =>
  (s_X11_mod a0 (w32 x3) q9.2).bind fun q11 =>
  (ck q11.2 9 a0).bind fun _ =>
  (s_X11_valueAt a0 40 q9.1 q11.1 q11.2).bind fun q13 =>
  some (q13.1, q13.2)
  else
  some (0, q4.2))
theorem w_X11_at {Z : Zt} {fin : Int × Me} {w : Int × Me} (C : CX Z yX11_at cX11_at (some .int) 5 4) {a0 : Nat} {x1 : Int} {x2 : Int} {x3 : Int} {μ : Me} (h : s_X11_at a0 x1 x2 x3 μ = some w) (hK : w = fin) : WL Z (QN Z (some (vI fin.1)) fin.2) μ 0 [(0, vO a0), (1, vI x1), (2, vI x2), (3, vI x3)] [] := by
  unfold s_X11_at at h
  refine r_aload_n C 0 dX11_at_0 rfl rfl ?_
  refine r_iconst C dX11_at_1 ?_
  obtain ⟨m1, em1, h⟩ := bs h
  refine r_putI C (c := 9) (r := (RX11, TX11, 38)) rfl 0 (by decide) rfl ⟨rfl, rfl⟩ rfl em1 q1313 dX11_at_2 ?_
  refine r_aload_n C 0 dX11_at_5 rfl rfl ?_
  refine r_aload_n C 0 dX11_at_6 rfl rfl ?_
  refine r_iload_n C 1 dX11_at_7 rfl rfl ?_
  obtain ⟨u3, eu3, h⟩ := bs h
  obtain ⟨q2, eq2, h⟩ := bs h
  refine r_callV C (As := [vI x1]) (b := a0) (rest := [vO a0]) (st1 := [vI q2.1, vO a0]) (v := some (vI q2.1)) (r := (RX11, TX11, 38)) (ci := 9) rfl eu3 (m_X11_noForm C.tr eq2) (lw_V q1601 q1603 qs64 q133 q1604) rfl hdX11_noForm rfl rfl (Nat.le_of_ble_eq_true rfl) ⟨by decide, by decide⟩ dX11_at_8 rfl ?_
  refine r_iconst C dX11_at_11 ?_
  obtain ⟨u5, eu5, h⟩ := bs h
  obtain ⟨q4, eq4, h⟩ := bs h
  refine r_callV C (As := [vI q2.1, vI 1]) (b := a0) (rest := []) (st1 := [vI q4.1]) (v := some (vI q4.1)) (r := (RX11, TX11, 38)) (ci := 9) rfl eu5 (m_X11_throwsIf C.tr eq4) (lw_V q1500 q1502 qs49 q133 q1503) rfl hdX11_throwsIf rfl rfl (Nat.le_of_ble_eq_true rfl) ⟨by decide, by decide⟩ dX11_at_12 rfl ?_
  refine r_if_eq C dX11_at_15 (tgt := 20) (by decide) (fun c6 => ?_) (fun c6 => ?_)
  · have h := it_ h c6
    refine r_aload_n C 0 dX11_at_20 rfl rfl ?_
    refine r_bipush C dX11_at_21 (by decide) ?_
    refine r_iload_n C 1 dX11_at_23 rfl rfl ?_
    obtain ⟨u8, eu8, h⟩ := bs h
    obtain ⟨q7, eq7, h⟩ := bs h
    refine r_callV C (As := [vI 40, vI x1]) (b := a0) (rest := []) (st1 := []) (v := none) (r := (RX11, TX11, 38)) (ci := 9) rfl eu8 (m_X11_takes C.tr eq7) (lw_V q1617 q1619 qs67 q133 q1620) rfl hdX11_takes rfl rfl (Nat.le_of_ble_eq_true rfl) ⟨by decide, by decide⟩ dX11_at_24 rfl ?_
    refine r_aload_n C 0 dX11_at_27 rfl rfl ?_
    refine r_bipush C dX11_at_28 (by decide) ?_
    refine r_aload_n C 0 dX11_at_30 rfl rfl ?_
    refine r_iload_n C 2 dX11_at_31 rfl rfl ?_
    refine r_i2l C dX11_at_32 ?_
    obtain ⟨u10, eu10, h⟩ := bs h
    obtain ⟨q9, eq9, h⟩ := bs h
    refine r_callV C (As := [vJ (w32 x2)]) (b := a0) (rest := [vI 40, vO a0]) (st1 := [vI q9.1, vI 40, vO a0]) (v := some (vI q9.1)) (r := (RX11, TX11, 38)) (ci := 9) rfl eu10 (m_X11_mod C.tr eq9) (lw_V q1518 q1520 qs50 q133 q1521) rfl hdX11_mod rfl rfl (Nat.le_of_ble_eq_true rfl) ⟨by decide, by decide⟩ dX11_at_33 rfl ?_
    refine r_aload_n C 0 dX11_at_36 rfl rfl ?_
    refine r_iload_n C 3 dX11_at_37 rfl rfl ?_
    refine r_i2l C dX11_at_38 ?_
    obtain ⟨u12, eu12, h⟩ := bs h
    obtain ⟨q11, eq11, h⟩ := bs h
    refine r_callV C (As := [vJ (w32 x3)]) (b := a0) (rest := [vI q9.1, vI 40, vO a0]) (st1 := [vI q11.1, vI q9.1, vI 40, vO a0]) (v := some (vI q11.1)) (r := (RX11, TX11, 38)) (ci := 9) rfl eu12 (m_X11_mod C.tr eq11) (lw_V q1518 q1520 qs50 q133 q1521) rfl hdX11_mod rfl rfl (Nat.le_of_ble_eq_true rfl) ⟨by decide, by decide⟩ dX11_at_39 rfl ?_
    obtain ⟨u14, eu14, h⟩ := bs h
    obtain ⟨q13, eq13, h⟩ := bs h
    refine r_callV C (As := [vI 40, vI q9.1, vI q11.1]) (b := a0) (rest := []) (st1 := [vI q13.1]) (v := some (vI q13.1)) (r := (RX11, TX11, 38)) (ci := 9) rfl eu14 (m_X11_valueAt C.tr eq13) (lw_V q1625 q1627 qs69 q133 q1628) rfl hdX11_valueAt rfl rfl (Nat.le_of_ble_eq_true rfl) ⟨by decide, by decide⟩ dX11_at_42 rfl ?_
    cases h
    exact r_iret C hK dX11_at_45
  · have h := ie_ h c6
    refine r_iconst C dX11_at_18 ?_
    cases h
    exact r_iret C hK dX11_at_19
theorem hdX11_at : zhd yX11_at 3 := by decide +kernel
theorem m_X11_at {l : Launch} {D : va_G} {b0 : Nat} (hl : l.stackTraces = false) {a0 : Nat} {x1 : Int} {x2 : Int} {x3 : Int} {μ : Me} {w : Int × Me} (h : s_X11_at a0 x1 x2 x3 μ = some w) : MN l D b0 yX11_at (ws_ yX11_at cX11_at 4 (some .int)) 5 [vO a0, vI x1, vI x2, vI x3] μ (some (vI w.1)) w.2 :=
  MN.of hl (by decide +kernel) (Nat.le_of_ble_eq_true rfl) (fun Z C _ _ => w_X11_at C h rfl)
noncomputable def s_X11_clears_l9_st (a0 : Nat) (x1 : Int) (x2 : Int) (x3 : Int) (μ : Me) : Option ((Int × Me) ⊕ (Me)) :=
  (if w32 x2 < w32 x3 then
  some (.inr μ)
  else
  (ck μ 9 a0).bind fun _ =>
  (s_X11_put a0 x1 x3 0 μ).bind fun q4 =>
  some (.inl ((x3 + 1), q4)))
theorem w_X11_clears_l9_st {Z : Zt} {fin : Me} {w : ((Int × Me) ⊕ (Me))} (C : CX Z yX11_clears cX11_clears none 2 4) {a0 : Nat} {x1 : Int} {x2 : Int} {x3 : Int} {μ : Me} (h : s_X11_clears_l9_st a0 x1 x2 x3 μ = some w) (hK : (Sum.elim (fun s : Int × Me => WL Z (QN Z none fin) s.2 9 [(0, vO a0), (1, vI x1), (2, vI x2), (3, vI s.1)] []) (fun r : Me => r = fin)) w) : WL Z (QN Z none fin) μ 9 [(0, vO a0), (1, vI x1), (2, vI x2), (3, vI x3)] [] := by
  unfold s_X11_clears_l9_st at h
  refine r_iload_n C 3 dX11_clears_9 rfl rfl ?_
  refine r_iload_n C 2 dX11_clears_10 rfl rfl ?_
  refine r_icmp_gt C dX11_clears_11 (tgt := 27) (by decide) (fun c3 => ?_) (fun c3 => ?_)
  · have h := it_ h c3
    cases h
    exact r_vret C hK dX11_clears_27
  · have h := ie_ h c3
    refine r_aload_n C 0 dX11_clears_14 rfl rfl ?_
    refine r_iload_n C 1 dX11_clears_15 rfl rfl ?_
    refine r_iload_n C 3 dX11_clears_16 rfl rfl ?_
    refine r_iconst C dX11_clears_17 ?_
    obtain ⟨u5, eu5, h⟩ := bs h
    obtain ⟨q4, eq4, h⟩ := bs h
    refine r_callV C (As := [vI x1, vI x3, vI 0]) (b := a0) (rest := []) (st1 := []) (v := none) (r := (RX11, TX11, 38)) (ci := 9) rfl eu5 (m_X11_put C.tr eq4) (lw_V q1621 q1623 qs68 q133 q1624) rfl hdX11_put rfl rfl (Nat.le_of_ble_eq_true rfl) ⟨by decide, by decide⟩ dX11_clears_18 rfl ?_
    refine r_iinc C 3 [(3, vI (x3 + 1)), (0, vO a0), (1, vI x1), (2, vI x2)] dX11_clears_21 rfl (by decide) rfl ?_
    refine r_goto C dX11_clears_24 (tgt := 9) (by decide) ?_
    cases h
    refine r_sub [1, 2, 3, 0] rfl ?_
    exact hK
noncomputable def s_X11_clears_l9 (a0 : Nat) (x1 : Int) (x2 : Int) (x3 : Int) (μ : Me) : Option (Me) :=
  whileO (fun s : Int × Me => s_X11_clears_l9_st a0 x1 x2 s.1 s.2) (x3, μ)
theorem e_X11_clears_l9 (a0 : Nat) (x1 : Int) (x2 : Int) (x3 : Int) (μ : Me) : s_X11_clears_l9 a0 x1 x2 x3 μ = (s_X11_clears_l9_st a0 x1 x2 x3 μ).bind fun x => x.elim (fun s : Int × Me => s_X11_clears_l9 a0 x1 x2 s.1 s.2) some := whileO_eq _ _
theorem w_X11_clears_l9 {Z : Zt} {fin : Me} {w : (Me)} (C : CX Z yX11_clears cX11_clears none 2 4) {a0 : Nat} {x1 : Int} {x2 : Int} {x3 : Int} {μ : Me} (h : s_X11_clears_l9 a0 x1 x2 x3 μ = some w) (hK : (fun r : Me => r = fin) w) : WL Z (QN Z none fin) μ 9 [(0, vO a0), (1, vI x1), (2, vI x2), (3, vI x3)] [] := by
  refine whileO_walk (w := w) (fun s : Int × Me => WL Z (QN Z none fin) s.2 9 [(0, vO a0), (1, vI x1), (2, vI x2), (3, vI s.1)] []) (fun s v h2 hi hr => ?_) (x3, μ) h
  refine w_X11_clears_l9_st (fin := fin) C h2 ?_
  cases v with
  | inl s2 => exact hi s2 rfl
  | inr r => have e := hr r rfl; subst e; exact hK
noncomputable def s_X11_clears (a0 : Nat) (x1 : Int) (x2 : Int) (μ : Me) : Option (Me) :=
  (gR μ 9 a0 4).bind fun v1 =>
  (uI μ v1 x1 x2).bind fun m2 =>
  s_X11_clears_l9 a0 x1 x2 0 m2
theorem w_X11_clears {Z : Zt} {fin : Me} {w : Me} (C : CX Z yX11_clears cX11_clears none 2 4) {a0 : Nat} {x1 : Int} {x2 : Int} {μ : Me} (h : s_X11_clears a0 x1 x2 μ = some w) (hK : w = fin) : WL Z (QN Z none fin) μ 0 [(0, vO a0), (1, vI x1), (2, vI x2)] [] := by
  unfold s_X11_clears at h
  refine r_aload_n C 0 dX11_clears_0 rfl rfl ?_
  obtain ⟨v1, ev1, h⟩ := bs h
  refine r_getR C (c := 9) (r := (RX11, TX11, 38)) rfl 4 (by decide) rfl ev1 q1317 dX11_clears_1 ?_
  refine r_iload_n C 1 dX11_clears_4 rfl rfl ?_
  refine r_iload_n C 2 dX11_clears_5 rfl rfl ?_
  obtain ⟨m2, em2, h⟩ := bs h
  refine r_iast C em2 dX11_clears_6 ?_
  refine r_iconst C dX11_clears_7 ?_
  refine r_istore_n C [(3, vI 0), (0, vO a0), (1, vI x1), (2, vI x2)] dX11_clears_8 rfl (by decide) rfl ?_
  refine r_sub [1, 2, 3, 0] rfl ?_
  exact w_X11_clears_l9 (fin := fin) C h hK
theorem hdX11_clears : zhd yX11_clears 2 := by decide +kernel
theorem m_X11_clears {l : Launch} {D : va_G} {b0 : Nat} (hl : l.stackTraces = false) {a0 : Nat} {x1 : Int} {x2 : Int} {μ : Me} {w : Me} (h : s_X11_clears a0 x1 x2 μ = some w) : MN l D b0 yX11_clears (ws_ yX11_clears cX11_clears 4 none) 2 [vO a0, vI x1, vI x2] μ none w :=
  MN.of hl (by decide +kernel) (Nat.le_of_ble_eq_true rfl) (fun Z C _ _ => w_X11_clears C h rfl)
noncomputable def s_X11_widens_b77 (a0 : Nat) (x1 : Int) (x2 : Int) (x3 : Int) (x4 : Int) (t0 : Int) (t1 : Int) (t2 : Nat) (t3 : Int) (t4 : Int) (t5 : Nat) (μ : Me) : Option ((Int × Me) ⊕ (Me)) :=
  (ck μ 9 t2).bind fun _ =>
  (s_X11_plus t2 t1 t0 μ).bind fun q16 =>
  (ck q16.2 9 t5).bind fun _ =>
  (s_X11_put t5 t4 t3 q16.1 q16.2).bind fun q18 =>
  some (.inl ((x4 + (-1)), q18))
theorem w_X11_widens_b77 {Z : Zt} {fin : Me} {w : ((Int × Me) ⊕ (Me))} (C : CX Z yX11_widens cX11_widens none 3 5) {a0 : Nat} {x1 : Int} {x2 : Int} {x3 : Int} {x4 : Int} {t0 : Int} {t1 : Int} {t2 : Nat} {t3 : Int} {t4 : Int} {t5 : Nat} {μ : Me} (h : s_X11_widens_b77 a0 x1 x2 x3 x4 t0 t1 t2 t3 t4 t5 μ = some w) (hK : (Sum.elim (fun s : Int × Me => WL Z (QN Z none fin) s.2 32 [(0, vO a0), (1, vI x1), (2, vI x2), (3, vI x3), (4, vI s.1)] []) (fun r : Me => r = fin)) w) : WL Z (QN Z none fin) μ 77 [(0, vO a0), (1, vI x1), (2, vI x2), (3, vI x3), (4, vI x4)] [vI t0, vI t1, vO t2, vI t3, vI t4, vO t5] := by
  unfold s_X11_widens_b77 at h
  obtain ⟨u17, eu17, h⟩ := bs h
  obtain ⟨q16, eq16, h⟩ := bs h
  refine r_callV C (As := [vI t1, vI t0]) (b := t2) (rest := [vI t3, vI t4, vO t5]) (st1 := [vI q16.1, vI t3, vI t4, vO t5]) (v := some (vI q16.1)) (r := (RX11, TX11, 38)) (ci := 9) rfl eu17 (m_X11_plus C.tr eq16) (lw_V q1569 q1571 qs60 q133 q1572) rfl hdX11_plus rfl rfl (Nat.le_of_ble_eq_true rfl) ⟨by decide, by decide⟩ dX11_widens_77 rfl ?_
  obtain ⟨u19, eu19, h⟩ := bs h
  obtain ⟨q18, eq18, h⟩ := bs h
  refine r_callV C (As := [vI t4, vI t3, vI q16.1]) (b := t5) (rest := []) (st1 := []) (v := none) (r := (RX11, TX11, 38)) (ci := 9) rfl eu19 (m_X11_put C.tr eq18) (lw_V q1621 q1623 qs68 q133 q1624) rfl hdX11_put rfl rfl (Nat.le_of_ble_eq_true rfl) ⟨by decide, by decide⟩ dX11_widens_80 rfl ?_
  refine r_iinc C 4 [(4, vI (x4 + (-1))), (0, vO a0), (1, vI x1), (2, vI x2), (3, vI x3)] dX11_widens_83 rfl (by decide) rfl ?_
  refine r_goto C dX11_widens_86 (tgt := 32) (by decide) ?_
  cases h
  refine r_sub [1, 2, 3, 4, 0] rfl ?_
  exact hK
noncomputable def s_X11_widens_l32_st (a0 : Nat) (x1 : Int) (x2 : Int) (x3 : Int) (x4 : Int) (μ : Me) : Option ((Int × Me) ⊕ (Me)) :=
  (if w32 x4 < 0 then
  some (.inr μ)
  else
  (ck μ 9 a0).bind fun _ =>
  (s_X11_of a0 x1 x4 μ).bind fun q11 =>
  (ck q11.2 9 a0).bind fun _ =>
  (s_X11_times a0 q11.1 x2 q11.2).bind fun q13 =>
  (if w32 x4 ≤ 0 then
  s_X11_widens_b77 a0 x1 x2 x3 x4 0 q13.1 a0 x4 x1 a0 q13.2
  else
  (ck q13.2 9 a0).bind fun _ =>
  (s_X11_of a0 x1 (x4 - 1) q13.2).bind fun q20 =>
  (ck q20.2 9 a0).bind fun _ =>
  (s_X11_times a0 q20.1 x3 q20.2).bind fun q22 =>
  s_X11_widens_b77 a0 x1 x2 x3 x4 q22.1 q13.1 a0 x4 x1 a0 q22.2))
theorem w_X11_widens_l32_st {Z : Zt} {fin : Me} {w : ((Int × Me) ⊕ (Me))} (C : CX Z yX11_widens cX11_widens none 3 5) {a0 : Nat} {x1 : Int} {x2 : Int} {x3 : Int} {x4 : Int} {μ : Me} (h : s_X11_widens_l32_st a0 x1 x2 x3 x4 μ = some w) (hK : (Sum.elim (fun s : Int × Me => WL Z (QN Z none fin) s.2 32 [(0, vO a0), (1, vI x1), (2, vI x2), (3, vI x3), (4, vI s.1)] []) (fun r : Me => r = fin)) w) : WL Z (QN Z none fin) μ 32 [(0, vO a0), (1, vI x1), (2, vI x2), (3, vI x3), (4, vI x4)] [] := by
  unfold s_X11_widens_l32_st at h
  refine r_iload C 4 dX11_widens_32 rfl ?_
  refine r_if_lt C dX11_widens_34 (tgt := 89) (by decide) (fun c10 => ?_) (fun c10 => ?_)
  · have h := it_ h c10
    cases h
    exact r_vret C hK dX11_widens_89
  · have h := ie_ h c10
    refine r_aload_n C 0 dX11_widens_37 rfl rfl ?_
    refine r_iload_n C 1 dX11_widens_38 rfl rfl ?_
    refine r_iload C 4 dX11_widens_39 rfl ?_
    refine r_aload_n C 0 dX11_widens_41 rfl rfl ?_
    refine r_aload_n C 0 dX11_widens_42 rfl rfl ?_
    refine r_aload_n C 0 dX11_widens_43 rfl rfl ?_
    refine r_iload_n C 1 dX11_widens_44 rfl rfl ?_
    refine r_iload C 4 dX11_widens_45 rfl ?_
    obtain ⟨u12, eu12, h⟩ := bs h
    obtain ⟨q11, eq11, h⟩ := bs h
    refine r_callV C (As := [vI x1, vI x4]) (b := a0) (rest := [vO a0, vO a0, vI x4, vI x1, vO a0]) (st1 := [vI q11.1, vO a0, vO a0, vI x4, vI x1, vO a0]) (v := some (vI q11.1)) (r := (RX11, TX11, 38)) (ci := 9) rfl eu12 (m_X11_of C.tr eq11) (lw_V q1629 q1631 qs70 q133 q1632) rfl hdX11_of rfl rfl (Nat.le_of_ble_eq_true rfl) ⟨by decide, by decide⟩ dX11_widens_47 rfl ?_
    refine r_iload_n C 2 dX11_widens_50 rfl rfl ?_
    obtain ⟨u14, eu14, h⟩ := bs h
    obtain ⟨q13, eq13, h⟩ := bs h
    refine r_callV C (As := [vI q11.1, vI x2]) (b := a0) (rest := [vO a0, vI x4, vI x1, vO a0]) (st1 := [vI q13.1, vO a0, vI x4, vI x1, vO a0]) (v := some (vI q13.1)) (r := (RX11, TX11, 38)) (ci := 9) rfl eu14 (m_X11_times C.tr eq13) (lw_V q1541 q1543 qs54 q133 q1544) rfl hdX11_times rfl rfl (Nat.le_of_ble_eq_true rfl) ⟨by decide, by decide⟩ dX11_widens_51 rfl ?_
    refine r_iload C 4 dX11_widens_54 rfl ?_
    refine r_if_le C dX11_widens_56 (tgt := 76) (by decide) (fun c15 => ?_) (fun c15 => ?_)
    · have h := it_ h c15
      refine r_iconst C dX11_widens_76 ?_
      exact w_X11_widens_b77 (fin := fin) C h hK
    · have h := ie_ h c15
      refine r_aload_n C 0 dX11_widens_59 rfl rfl ?_
      refine r_aload_n C 0 dX11_widens_60 rfl rfl ?_
      refine r_iload_n C 1 dX11_widens_61 rfl rfl ?_
      refine r_iload C 4 dX11_widens_62 rfl ?_
      refine r_iconst C dX11_widens_64 ?_
      refine r_isub C dX11_widens_65 ?_
      obtain ⟨u21, eu21, h⟩ := bs h
      obtain ⟨q20, eq20, h⟩ := bs h
      refine r_callV C (As := [vI x1, vI (x4 - 1)]) (b := a0) (rest := [vO a0, vI q13.1, vO a0, vI x4, vI x1, vO a0]) (st1 := [vI q20.1, vO a0, vI q13.1, vO a0, vI x4, vI x1, vO a0]) (v := some (vI q20.1)) (r := (RX11, TX11, 38)) (ci := 9) rfl eu21 (m_X11_of C.tr eq20) (lw_V q1629 q1631 qs70 q133 q1632) rfl hdX11_of rfl rfl (Nat.le_of_ble_eq_true rfl) ⟨by decide, by decide⟩ dX11_widens_66 rfl ?_
      refine r_iload_n C 3 dX11_widens_69 rfl rfl ?_
      obtain ⟨u23, eu23, h⟩ := bs h
      obtain ⟨q22, eq22, h⟩ := bs h
      refine r_callV C (As := [vI q20.1, vI x3]) (b := a0) (rest := [vI q13.1, vO a0, vI x4, vI x1, vO a0]) (st1 := [vI q22.1, vI q13.1, vO a0, vI x4, vI x1, vO a0]) (v := some (vI q22.1)) (r := (RX11, TX11, 38)) (ci := 9) rfl eu23 (m_X11_times C.tr eq22) (lw_V q1541 q1543 qs54 q133 q1544) rfl hdX11_times rfl rfl (Nat.le_of_ble_eq_true rfl) ⟨by decide, by decide⟩ dX11_widens_70 rfl ?_
      refine r_goto C dX11_widens_73 (tgt := 77) (by decide) ?_
      exact w_X11_widens_b77 (fin := fin) C h hK
noncomputable def s_X11_widens_l32 (a0 : Nat) (x1 : Int) (x2 : Int) (x3 : Int) (x4 : Int) (μ : Me) : Option (Me) :=
  whileO (fun s : Int × Me => s_X11_widens_l32_st a0 x1 x2 x3 s.1 s.2) (x4, μ)
theorem e_X11_widens_l32 (a0 : Nat) (x1 : Int) (x2 : Int) (x3 : Int) (x4 : Int) (μ : Me) : s_X11_widens_l32 a0 x1 x2 x3 x4 μ = (s_X11_widens_l32_st a0 x1 x2 x3 x4 μ).bind fun x => x.elim (fun s : Int × Me => s_X11_widens_l32 a0 x1 x2 x3 s.1 s.2) some := whileO_eq _ _
theorem w_X11_widens_l32 {Z : Zt} {fin : Me} {w : (Me)} (C : CX Z yX11_widens cX11_widens none 3 5) {a0 : Nat} {x1 : Int} {x2 : Int} {x3 : Int} {x4 : Int} {μ : Me} (h : s_X11_widens_l32 a0 x1 x2 x3 x4 μ = some w) (hK : (fun r : Me => r = fin) w) : WL Z (QN Z none fin) μ 32 [(0, vO a0), (1, vI x1), (2, vI x2), (3, vI x3), (4, vI x4)] [] := by
  refine whileO_walk (w := w) (fun s : Int × Me => WL Z (QN Z none fin) s.2 32 [(0, vO a0), (1, vI x1), (2, vI x2), (3, vI x3), (4, vI s.1)] []) (fun s v h2 hi hr => ?_) (x4, μ) h
  refine w_X11_widens_l32_st (fin := fin) C h2 ?_
  cases v with
  | inl s2 => exact hi s2 rfl
  | inr r => have e := hr r rfl; subst e; exact hK
noncomputable def s_X11_widens (a0 : Nat) (x1 : Int) (x2 : Int) (x3 : Int) (μ : Me) : Option (Me) :=
  (gR μ 9 a0 4).bind fun v1 =>
  (aI μ 101 v1 x1).bind fun v2 =>
  (ck μ 9 a0).bind fun _ =>
  (s_X11_put a0 x1 (v2 + 1) 0 μ).bind fun q3 =>
  (gR q3 9 a0 4).bind fun v5 =>
  (aI q3 101 v5 x1).bind fun v6 =>
  (uI q3 v5 x1 (v6 + 1)).bind fun m7 =>
  (gR m7 9 a0 4).bind fun v8 =>
  (aI m7 101 v8 x1).bind fun v9 =>
  s_X11_widens_l32 a0 x1 x2 x3 v9 m7
theorem w_X11_widens {Z : Zt} {fin : Me} {w : Me} (C : CX Z yX11_widens cX11_widens none 3 5) {a0 : Nat} {x1 : Int} {x2 : Int} {x3 : Int} {μ : Me} (h : s_X11_widens a0 x1 x2 x3 μ = some w) (hK : w = fin) : WL Z (QN Z none fin) μ 0 [(0, vO a0), (1, vI x1), (2, vI x2), (3, vI x3)] [] := by
  unfold s_X11_widens at h
  refine r_aload_n C 0 dX11_widens_0 rfl rfl ?_
  refine r_iload_n C 1 dX11_widens_1 rfl rfl ?_
  refine r_aload_n C 0 dX11_widens_2 rfl rfl ?_
  obtain ⟨v1, ev1, h⟩ := bs h
  refine r_getR C (c := 9) (r := (RX11, TX11, 38)) rfl 4 (by decide) rfl ev1 q1317 dX11_widens_3 ?_
  refine r_iload_n C 1 dX11_widens_6 rfl rfl ?_
  obtain ⟨v2, ev2, h⟩ := bs h
  refine r_iald C ev2 dX11_widens_7 ?_
  refine r_iconst C dX11_widens_8 ?_
  refine r_iadd C dX11_widens_9 ?_
  refine r_iconst C dX11_widens_10 ?_
  obtain ⟨u4, eu4, h⟩ := bs h
  obtain ⟨q3, eq3, h⟩ := bs h
  refine r_callV C (As := [vI x1, vI (v2 + 1), vI 0]) (b := a0) (rest := []) (st1 := []) (v := none) (r := (RX11, TX11, 38)) (ci := 9) rfl eu4 (m_X11_put C.tr eq3) (lw_V q1621 q1623 qs68 q133 q1624) rfl hdX11_put rfl rfl (Nat.le_of_ble_eq_true rfl) ⟨by decide, by decide⟩ dX11_widens_11 rfl ?_
  refine r_aload_n C 0 dX11_widens_14 rfl rfl ?_
  obtain ⟨v5, ev5, h⟩ := bs h
  refine r_getR C (c := 9) (r := (RX11, TX11, 38)) rfl 4 (by decide) rfl ev5 q1317 dX11_widens_15 ?_
  refine r_iload_n C 1 dX11_widens_18 rfl rfl ?_
  refine r_dup2 C dX11_widens_19 rfl rfl ?_
  obtain ⟨v6, ev6, h⟩ := bs h
  refine r_iald C ev6 dX11_widens_20 ?_
  refine r_iconst C dX11_widens_21 ?_
  refine r_iadd C dX11_widens_22 ?_
  obtain ⟨m7, em7, h⟩ := bs h
  refine r_iast C em7 dX11_widens_23 ?_
  refine r_aload_n C 0 dX11_widens_24 rfl rfl ?_
  obtain ⟨v8, ev8, h⟩ := bs h
  refine r_getR C (c := 9) (r := (RX11, TX11, 38)) rfl 4 (by decide) rfl ev8 q1317 dX11_widens_25 ?_
  refine r_iload_n C 1 dX11_widens_28 rfl rfl ?_
  obtain ⟨v9, ev9, h⟩ := bs h
  refine r_iald C ev9 dX11_widens_29 ?_
  refine r_istore C [(4, vI v9), (0, vO a0), (1, vI x1), (2, vI x2), (3, vI x3)] dX11_widens_30 (by decide) rfl ?_
  refine r_sub [1, 2, 3, 4, 0] rfl ?_
  exact w_X11_widens_l32 (fin := fin) C h hK
theorem hdX11_widens : zhd yX11_widens 3 := by decide +kernel
theorem m_X11_widens {l : Launch} {D : va_G} {b0 : Nat} (hl : l.stackTraces = false) {a0 : Nat} {x1 : Int} {x2 : Int} {x3 : Int} {μ : Me} {w : Me} (h : s_X11_widens a0 x1 x2 x3 μ = some w) : MN l D b0 yX11_widens (ws_ yX11_widens cX11_widens 5 none) 3 [vO a0, vI x1, vI x2, vI x3] μ none w :=
  MN.of hl (by decide +kernel) (Nat.le_of_ble_eq_true rfl) (fun Z C _ _ => w_X11_widens C h rfl)
noncomputable def s_X11_mixes_l108_st (a0 : Nat) (x1 : Int) (x2 : Int) (x3 : Int) (x4 : Int) (x5 : Int) (μ : Me) : Option ((Int × Me) ⊕ ((Int × Me) ⊕ (Me))) :=
  (if w32 x3 < w32 x5 then
  some (.inr (.inl ((x4 + 1), μ)))
  else
  (ck μ 9 a0).bind fun _ =>
  (s_X11_of a0 x2 x5 μ).bind fun q15 =>
  (ck q15.2 9 a0).bind fun _ =>
  (s_X11_of a0 45 x5 q15.2).bind fun q17 =>
  (ck q17.2 9 a0).bind fun _ =>
  (s_X11_plus a0 q15.1 q17.1 q17.2).bind fun q19 =>
  (ck q19.2 9 a0).bind fun _ =>
  (s_X11_put a0 x2 x5 q19.1 q19.2).bind fun q21 =>
  some (.inl ((x5 + 1), q21)))
theorem w_X11_mixes_l108_st {Z : Zt} {fin : Me} {w : ((Int × Me) ⊕ ((Int × Me) ⊕ (Me)))} (C : CX Z yX11_mixes cX11_mixes none 4 6) {a0 : Nat} {x1 : Int} {x2 : Int} {x3 : Int} {x4 : Int} {x5 : Int} {μ : Me} (h : s_X11_mixes_l108_st a0 x1 x2 x3 x4 x5 μ = some w) (hK : (Sum.elim (fun s : Int × Me => WL Z (QN Z none fin) s.2 108 [(0, vO a0), (1, vI x1), (2, vI x2), (3, vI x3), (4, vI x4), (5, vI s.1)] []) (Sum.elim (fun s : Int × Me => WL Z (QN Z none fin) s.2 16 [(0, vO a0), (1, vI x1), (2, vI x2), (3, vI x3), (4, vI s.1)] []) (fun r : Me => r = fin))) w) : WL Z (QN Z none fin) μ 108 [(0, vO a0), (1, vI x1), (2, vI x2), (3, vI x3), (4, vI x4), (5, vI x5)] [] := by
  unfold s_X11_mixes_l108_st at h
  refine r_iload C 5 dX11_mixes_108 rfl ?_
  refine r_iload_n C 3 dX11_mixes_110 rfl rfl ?_
  refine r_icmp_gt C dX11_mixes_111 (tgt := 146) (by decide) (fun c14 => ?_) (fun c14 => ?_)
  · have h := it_ h c14
    refine r_iinc C 4 [(4, vI (x4 + 1)), (0, vO a0), (1, vI x1), (2, vI x2), (3, vI x3), (5, vI x5)] dX11_mixes_146 rfl (by decide) rfl ?_
    refine r_goto C dX11_mixes_149 (tgt := 16) (by decide) ?_
    cases h
    refine r_sub [1, 2, 3, 4, 0] rfl ?_
    exact hK
  · have h := ie_ h c14
    refine r_aload_n C 0 dX11_mixes_114 rfl rfl ?_
    refine r_iload_n C 2 dX11_mixes_115 rfl rfl ?_
    refine r_iload C 5 dX11_mixes_116 rfl ?_
    refine r_aload_n C 0 dX11_mixes_118 rfl rfl ?_
    refine r_aload_n C 0 dX11_mixes_119 rfl rfl ?_
    refine r_iload_n C 2 dX11_mixes_120 rfl rfl ?_
    refine r_iload C 5 dX11_mixes_121 rfl ?_
    obtain ⟨u16, eu16, h⟩ := bs h
    obtain ⟨q15, eq15, h⟩ := bs h
    refine r_callV C (As := [vI x2, vI x5]) (b := a0) (rest := [vO a0, vI x5, vI x2, vO a0]) (st1 := [vI q15.1, vO a0, vI x5, vI x2, vO a0]) (v := some (vI q15.1)) (r := (RX11, TX11, 38)) (ci := 9) rfl eu16 (m_X11_of C.tr eq15) (lw_V q1629 q1631 qs70 q133 q1632) rfl hdX11_of rfl rfl (Nat.le_of_ble_eq_true rfl) ⟨by decide, by decide⟩ dX11_mixes_123 rfl ?_
    refine r_aload_n C 0 dX11_mixes_126 rfl rfl ?_
    refine r_bipush C dX11_mixes_127 (by decide) ?_
    refine r_iload C 5 dX11_mixes_129 rfl ?_
    obtain ⟨u18, eu18, h⟩ := bs h
    obtain ⟨q17, eq17, h⟩ := bs h
    refine r_callV C (As := [vI 45, vI x5]) (b := a0) (rest := [vI q15.1, vO a0, vI x5, vI x2, vO a0]) (st1 := [vI q17.1, vI q15.1, vO a0, vI x5, vI x2, vO a0]) (v := some (vI q17.1)) (r := (RX11, TX11, 38)) (ci := 9) rfl eu18 (m_X11_of C.tr eq17) (lw_V q1629 q1631 qs70 q133 q1632) rfl hdX11_of rfl rfl (Nat.le_of_ble_eq_true rfl) ⟨by decide, by decide⟩ dX11_mixes_131 rfl ?_
    obtain ⟨u20, eu20, h⟩ := bs h
    obtain ⟨q19, eq19, h⟩ := bs h
    refine r_callV C (As := [vI q15.1, vI q17.1]) (b := a0) (rest := [vI x5, vI x2, vO a0]) (st1 := [vI q19.1, vI x5, vI x2, vO a0]) (v := some (vI q19.1)) (r := (RX11, TX11, 38)) (ci := 9) rfl eu20 (m_X11_plus C.tr eq19) (lw_V q1569 q1571 qs60 q133 q1572) rfl hdX11_plus rfl rfl (Nat.le_of_ble_eq_true rfl) ⟨by decide, by decide⟩ dX11_mixes_134 rfl ?_
    obtain ⟨u22, eu22, h⟩ := bs h
    obtain ⟨q21, eq21, h⟩ := bs h
    refine r_callV C (As := [vI x2, vI x5, vI q19.1]) (b := a0) (rest := []) (st1 := []) (v := none) (r := (RX11, TX11, 38)) (ci := 9) rfl eu22 (m_X11_put C.tr eq21) (lw_V q1621 q1623 qs68 q133 q1624) rfl hdX11_put rfl rfl (Nat.le_of_ble_eq_true rfl) ⟨by decide, by decide⟩ dX11_mixes_137 rfl ?_
    refine r_iinc C 5 [(5, vI (x5 + 1)), (0, vO a0), (1, vI x1), (2, vI x2), (3, vI x3), (4, vI x4)] dX11_mixes_140 rfl (by decide) rfl ?_
    refine r_goto C dX11_mixes_143 (tgt := 108) (by decide) ?_
    cases h
    refine r_sub [1, 2, 3, 4, 5, 0] rfl ?_
    exact hK
noncomputable def s_X11_mixes_l108 (a0 : Nat) (x1 : Int) (x2 : Int) (x3 : Int) (x4 : Int) (x5 : Int) (μ : Me) : Option ((Int × Me) ⊕ (Me)) :=
  whileO (fun s : Int × Me => s_X11_mixes_l108_st a0 x1 x2 x3 x4 s.1 s.2) (x5, μ)
theorem e_X11_mixes_l108 (a0 : Nat) (x1 : Int) (x2 : Int) (x3 : Int) (x4 : Int) (x5 : Int) (μ : Me) : s_X11_mixes_l108 a0 x1 x2 x3 x4 x5 μ = (s_X11_mixes_l108_st a0 x1 x2 x3 x4 x5 μ).bind fun x => x.elim (fun s : Int × Me => s_X11_mixes_l108 a0 x1 x2 x3 x4 s.1 s.2) some := whileO_eq _ _
theorem w_X11_mixes_l108 {Z : Zt} {fin : Me} {w : ((Int × Me) ⊕ (Me))} (C : CX Z yX11_mixes cX11_mixes none 4 6) {a0 : Nat} {x1 : Int} {x2 : Int} {x3 : Int} {x4 : Int} {x5 : Int} {μ : Me} (h : s_X11_mixes_l108 a0 x1 x2 x3 x4 x5 μ = some w) (hK : (Sum.elim (fun s : Int × Me => WL Z (QN Z none fin) s.2 16 [(0, vO a0), (1, vI x1), (2, vI x2), (3, vI x3), (4, vI s.1)] []) (fun r : Me => r = fin)) w) : WL Z (QN Z none fin) μ 108 [(0, vO a0), (1, vI x1), (2, vI x2), (3, vI x3), (4, vI x4), (5, vI x5)] [] := by
  refine whileO_walk (w := w) (fun s : Int × Me => WL Z (QN Z none fin) s.2 108 [(0, vO a0), (1, vI x1), (2, vI x2), (3, vI x3), (4, vI x4), (5, vI s.1)] []) (fun s v h2 hi hr => ?_) (x5, μ) h
  refine w_X11_mixes_l108_st (fin := fin) C h2 ?_
  cases v with
  | inl s2 => exact hi s2 rfl
  | inr r => have e := hr r rfl; subst e; exact hK
noncomputable def s_X11_mixes_l78_st (a0 : Nat) (x1 : Int) (x2 : Int) (x3 : Int) (x4 : Int) (x5 : Int) (μ : Me) : Option ((Int × Me) ⊕ ((Int × Me) ⊕ (Me))) :=
  (if w32 x4 ≤ w32 x5 then
  (s_X11_mixes_l108 a0 x1 x2 x3 x4 0 μ).map Sum.inr
  else
  (gI μ 9 a0 8).bind fun v23 =>
  (gI μ 9 a0 9).bind fun v24 =>
  (ck μ 9 a0).bind fun _ =>
  (s_X11_widens a0 45 v23 v24 μ).bind fun q25 =>
  some (.inl ((x5 + 1), q25)))
theorem w_X11_mixes_l78_st {Z : Zt} {fin : Me} {w : ((Int × Me) ⊕ ((Int × Me) ⊕ (Me)))} (C : CX Z yX11_mixes cX11_mixes none 4 6) {a0 : Nat} {x1 : Int} {x2 : Int} {x3 : Int} {x4 : Int} {x5 : Int} {μ : Me} (h : s_X11_mixes_l78_st a0 x1 x2 x3 x4 x5 μ = some w) (hK : (Sum.elim (fun s : Int × Me => WL Z (QN Z none fin) s.2 78 [(0, vO a0), (1, vI x1), (2, vI x2), (3, vI x3), (4, vI x4), (5, vI s.1)] []) (Sum.elim (fun s : Int × Me => WL Z (QN Z none fin) s.2 16 [(0, vO a0), (1, vI x1), (2, vI x2), (3, vI x3), (4, vI s.1)] []) (fun r : Me => r = fin))) w) : WL Z (QN Z none fin) μ 78 [(0, vO a0), (1, vI x1), (2, vI x2), (3, vI x3), (4, vI x4), (5, vI x5)] [] := by
  unfold s_X11_mixes_l78_st at h
  refine r_iload C 5 dX11_mixes_78 rfl ?_
  refine r_iload C 4 dX11_mixes_80 rfl ?_
  refine r_icmp_ge C dX11_mixes_82 (tgt := 105) (by decide) (fun c13 => ?_) (fun c13 => ?_)
  · have h := it_ h c13
    refine r_iconst C dX11_mixes_105 ?_
    refine r_istore C [(5, vI 0), (0, vO a0), (1, vI x1), (2, vI x2), (3, vI x3), (4, vI x4)] dX11_mixes_106 (by decide) rfl ?_
    obtain ⟨z, hz, ez⟩ := ms_ h; clear h; subst ez; have h := hz; clear hz
    refine r_sub [1, 2, 3, 4, 5, 0] rfl ?_
    exact w_X11_mixes_l108 (fin := fin) C h hK
  · have h := ie_ h c13
    refine r_aload_n C 0 dX11_mixes_85 rfl rfl ?_
    refine r_bipush C dX11_mixes_86 (by decide) ?_
    refine r_aload_n C 0 dX11_mixes_88 rfl rfl ?_
    obtain ⟨v23, ev23, h⟩ := bs h
    refine r_getI C (c := 9) (r := (RX11, TX11, 38)) rfl 8 (by decide) rfl ev23 q1321 dX11_mixes_89 ?_
    refine r_aload_n C 0 dX11_mixes_92 rfl rfl ?_
    obtain ⟨v24, ev24, h⟩ := bs h
    refine r_getI C (c := 9) (r := (RX11, TX11, 38)) rfl 9 (by decide) rfl ev24 q1322 dX11_mixes_93 ?_
    obtain ⟨u26, eu26, h⟩ := bs h
    obtain ⟨q25, eq25, h⟩ := bs h
    refine r_callV C (As := [vI 45, vI v23, vI v24]) (b := a0) (rest := []) (st1 := []) (v := none) (r := (RX11, TX11, 38)) (ci := 9) rfl eu26 (m_X11_widens C.tr eq25) (lw_V q1649 q1651 qs74 q133 q1652) rfl hdX11_widens rfl rfl (Nat.le_of_ble_eq_true rfl) ⟨by decide, by decide⟩ dX11_mixes_96 rfl ?_
    refine r_iinc C 5 [(5, vI (x5 + 1)), (0, vO a0), (1, vI x1), (2, vI x2), (3, vI x3), (4, vI x4)] dX11_mixes_99 rfl (by decide) rfl ?_
    refine r_goto C dX11_mixes_102 (tgt := 78) (by decide) ?_
    cases h
    refine r_sub [1, 2, 3, 4, 5, 0] rfl ?_
    exact hK
noncomputable def s_X11_mixes_l78 (a0 : Nat) (x1 : Int) (x2 : Int) (x3 : Int) (x4 : Int) (x5 : Int) (μ : Me) : Option ((Int × Me) ⊕ (Me)) :=
  whileO (fun s : Int × Me => s_X11_mixes_l78_st a0 x1 x2 x3 x4 s.1 s.2) (x5, μ)
theorem e_X11_mixes_l78 (a0 : Nat) (x1 : Int) (x2 : Int) (x3 : Int) (x4 : Int) (x5 : Int) (μ : Me) : s_X11_mixes_l78 a0 x1 x2 x3 x4 x5 μ = (s_X11_mixes_l78_st a0 x1 x2 x3 x4 x5 μ).bind fun x => x.elim (fun s : Int × Me => s_X11_mixes_l78 a0 x1 x2 x3 x4 s.1 s.2) some := whileO_eq _ _
theorem w_X11_mixes_l78 {Z : Zt} {fin : Me} {w : ((Int × Me) ⊕ (Me))} (C : CX Z yX11_mixes cX11_mixes none 4 6) {a0 : Nat} {x1 : Int} {x2 : Int} {x3 : Int} {x4 : Int} {x5 : Int} {μ : Me} (h : s_X11_mixes_l78 a0 x1 x2 x3 x4 x5 μ = some w) (hK : (Sum.elim (fun s : Int × Me => WL Z (QN Z none fin) s.2 16 [(0, vO a0), (1, vI x1), (2, vI x2), (3, vI x3), (4, vI s.1)] []) (fun r : Me => r = fin)) w) : WL Z (QN Z none fin) μ 78 [(0, vO a0), (1, vI x1), (2, vI x2), (3, vI x3), (4, vI x4), (5, vI x5)] [] := by
  refine whileO_walk (w := w) (fun s : Int × Me => WL Z (QN Z none fin) s.2 78 [(0, vO a0), (1, vI x1), (2, vI x2), (3, vI x3), (4, vI x4), (5, vI s.1)] []) (fun s v h2 hi hr => ?_) (x5, μ) h
  refine w_X11_mixes_l78_st (fin := fin) C h2 ?_
  cases v with
  | inl s2 => exact hi s2 rfl
  | inr r => have e := hr r rfl; subst e; exact hK
noncomputable def s_X11_mixes_l46_st (a0 : Nat) (x1 : Int) (x2 : Int) (x3 : Int) (x4 : Int) (x5 : Int) (μ : Me) : Option ((Int × Me) ⊕ ((Int × Me) ⊕ (Me))) :=
  (if w32 (x3 - x4) ≤ w32 x5 then
  (s_X11_mixes_l78 a0 x1 x2 x3 x4 0 μ).map Sum.inr
  else
  (gI μ 9 a0 6).bind fun v27 =>
  (gI μ 9 a0 7).bind fun v28 =>
  (ck μ 9 a0).bind fun _ =>
  (s_X11_widens a0 45 v27 v28 μ).bind fun q29 =>
  some (.inl ((x5 + 1), q29)))
theorem w_X11_mixes_l46_st {Z : Zt} {fin : Me} {w : ((Int × Me) ⊕ ((Int × Me) ⊕ (Me)))} (C : CX Z yX11_mixes cX11_mixes none 4 6) {a0 : Nat} {x1 : Int} {x2 : Int} {x3 : Int} {x4 : Int} {x5 : Int} {μ : Me} (h : s_X11_mixes_l46_st a0 x1 x2 x3 x4 x5 μ = some w) (hK : (Sum.elim (fun s : Int × Me => WL Z (QN Z none fin) s.2 46 [(0, vO a0), (1, vI x1), (2, vI x2), (3, vI x3), (4, vI x4), (5, vI s.1)] []) (Sum.elim (fun s : Int × Me => WL Z (QN Z none fin) s.2 16 [(0, vO a0), (1, vI x1), (2, vI x2), (3, vI x3), (4, vI s.1)] []) (fun r : Me => r = fin))) w) : WL Z (QN Z none fin) μ 46 [(0, vO a0), (1, vI x1), (2, vI x2), (3, vI x3), (4, vI x4), (5, vI x5)] [] := by
  unfold s_X11_mixes_l46_st at h
  refine r_iload C 5 dX11_mixes_46 rfl ?_
  refine r_iload_n C 3 dX11_mixes_48 rfl rfl ?_
  refine r_iload C 4 dX11_mixes_49 rfl ?_
  refine r_isub C dX11_mixes_51 ?_
  refine r_icmp_ge C dX11_mixes_52 (tgt := 75) (by decide) (fun c12 => ?_) (fun c12 => ?_)
  · have h := it_ h c12
    refine r_iconst C dX11_mixes_75 ?_
    refine r_istore C [(5, vI 0), (0, vO a0), (1, vI x1), (2, vI x2), (3, vI x3), (4, vI x4)] dX11_mixes_76 (by decide) rfl ?_
    obtain ⟨z, hz, ez⟩ := ms_ h; clear h; subst ez; have h := hz; clear hz
    refine r_sub [1, 2, 3, 4, 5, 0] rfl ?_
    exact w_X11_mixes_l78 (fin := fin) C h hK
  · have h := ie_ h c12
    refine r_aload_n C 0 dX11_mixes_55 rfl rfl ?_
    refine r_bipush C dX11_mixes_56 (by decide) ?_
    refine r_aload_n C 0 dX11_mixes_58 rfl rfl ?_
    obtain ⟨v27, ev27, h⟩ := bs h
    refine r_getI C (c := 9) (r := (RX11, TX11, 38)) rfl 6 (by decide) rfl ev27 q1319 dX11_mixes_59 ?_
    refine r_aload_n C 0 dX11_mixes_62 rfl rfl ?_
    obtain ⟨v28, ev28, h⟩ := bs h
    refine r_getI C (c := 9) (r := (RX11, TX11, 38)) rfl 7 (by decide) rfl ev28 q1320 dX11_mixes_63 ?_
    obtain ⟨u30, eu30, h⟩ := bs h
    obtain ⟨q29, eq29, h⟩ := bs h
    refine r_callV C (As := [vI 45, vI v27, vI v28]) (b := a0) (rest := []) (st1 := []) (v := none) (r := (RX11, TX11, 38)) (ci := 9) rfl eu30 (m_X11_widens C.tr eq29) (lw_V q1649 q1651 qs74 q133 q1652) rfl hdX11_widens rfl rfl (Nat.le_of_ble_eq_true rfl) ⟨by decide, by decide⟩ dX11_mixes_66 rfl ?_
    refine r_iinc C 5 [(5, vI (x5 + 1)), (0, vO a0), (1, vI x1), (2, vI x2), (3, vI x3), (4, vI x4)] dX11_mixes_69 rfl (by decide) rfl ?_
    refine r_goto C dX11_mixes_72 (tgt := 46) (by decide) ?_
    cases h
    refine r_sub [1, 2, 3, 4, 5, 0] rfl ?_
    exact hK
noncomputable def s_X11_mixes_l46 (a0 : Nat) (x1 : Int) (x2 : Int) (x3 : Int) (x4 : Int) (x5 : Int) (μ : Me) : Option ((Int × Me) ⊕ (Me)) :=
  whileO (fun s : Int × Me => s_X11_mixes_l46_st a0 x1 x2 x3 x4 s.1 s.2) (x5, μ)
theorem e_X11_mixes_l46 (a0 : Nat) (x1 : Int) (x2 : Int) (x3 : Int) (x4 : Int) (x5 : Int) (μ : Me) : s_X11_mixes_l46 a0 x1 x2 x3 x4 x5 μ = (s_X11_mixes_l46_st a0 x1 x2 x3 x4 x5 μ).bind fun x => x.elim (fun s : Int × Me => s_X11_mixes_l46 a0 x1 x2 x3 x4 s.1 s.2) some := whileO_eq _ _
theorem w_X11_mixes_l46 {Z : Zt} {fin : Me} {w : ((Int × Me) ⊕ (Me))} (C : CX Z yX11_mixes cX11_mixes none 4 6) {a0 : Nat} {x1 : Int} {x2 : Int} {x3 : Int} {x4 : Int} {x5 : Int} {μ : Me} (h : s_X11_mixes_l46 a0 x1 x2 x3 x4 x5 μ = some w) (hK : (Sum.elim (fun s : Int × Me => WL Z (QN Z none fin) s.2 16 [(0, vO a0), (1, vI x1), (2, vI x2), (3, vI x3), (4, vI s.1)] []) (fun r : Me => r = fin)) w) : WL Z (QN Z none fin) μ 46 [(0, vO a0), (1, vI x1), (2, vI x2), (3, vI x3), (4, vI x4), (5, vI x5)] [] := by
  refine whileO_walk (w := w) (fun s : Int × Me => WL Z (QN Z none fin) s.2 46 [(0, vO a0), (1, vI x1), (2, vI x2), (3, vI x3), (4, vI x4), (5, vI s.1)] []) (fun s v h2 hi hr => ?_) (x5, μ) h
  refine w_X11_mixes_l46_st (fin := fin) C h2 ?_
  cases v with
  | inl s2 => exact hi s2 rfl
  | inr r => have e := hr r rfl; subst e; exact hK
noncomputable def s_X11_mixes_l16_st (a0 : Nat) (x1 : Int) (x2 : Int) (x3 : Int) (x4 : Int) (μ : Me) : Option ((Int × Me) ⊕ (Me)) :=
  (if w32 x3 < w32 x4 then
  some (.inr μ)
  else
  (ck μ 9 a0).bind fun _ =>
  (s_X11_clears a0 45 0 μ).bind fun q6 =>
  (ck q6 9 a0).bind fun _ =>
  (s_X11_of a0 x1 x4 q6).bind fun q8 =>
  (ck q8.2 9 a0).bind fun _ =>
  (s_X11_put a0 45 0 q8.1 q8.2).bind fun q10 =>
  s_X11_mixes_l46 a0 x1 x2 x3 x4 0 q10)
theorem w_X11_mixes_l16_st {Z : Zt} {fin : Me} {w : ((Int × Me) ⊕ (Me))} (C : CX Z yX11_mixes cX11_mixes none 4 6) {a0 : Nat} {x1 : Int} {x2 : Int} {x3 : Int} {x4 : Int} {μ : Me} (h : s_X11_mixes_l16_st a0 x1 x2 x3 x4 μ = some w) (hK : (Sum.elim (fun s : Int × Me => WL Z (QN Z none fin) s.2 16 [(0, vO a0), (1, vI x1), (2, vI x2), (3, vI x3), (4, vI s.1)] []) (fun r : Me => r = fin)) w) : WL Z (QN Z none fin) μ 16 [(0, vO a0), (1, vI x1), (2, vI x2), (3, vI x3), (4, vI x4)] [] := by
  unfold s_X11_mixes_l16_st at h
  refine r_iload C 4 dX11_mixes_16 rfl ?_
  refine r_iload_n C 3 dX11_mixes_18 rfl rfl ?_
  refine r_icmp_gt C dX11_mixes_19 (tgt := 152) (by decide) (fun c5 => ?_) (fun c5 => ?_)
  · have h := it_ h c5
    cases h
    exact r_vret C hK dX11_mixes_152
  · have h := ie_ h c5
    refine r_aload_n C 0 dX11_mixes_22 rfl rfl ?_
    refine r_bipush C dX11_mixes_23 (by decide) ?_
    refine r_iconst C dX11_mixes_25 ?_
    obtain ⟨u7, eu7, h⟩ := bs h
    obtain ⟨q6, eq6, h⟩ := bs h
    refine r_callV C (As := [vI 45, vI 0]) (b := a0) (rest := []) (st1 := []) (v := none) (r := (RX11, TX11, 38)) (ci := 9) rfl eu7 (m_X11_clears C.tr eq6) (lw_V q1645 q1647 qs73 q133 q1648) rfl hdX11_clears rfl rfl (Nat.le_of_ble_eq_true rfl) ⟨by decide, by decide⟩ dX11_mixes_26 rfl ?_
    refine r_aload_n C 0 dX11_mixes_29 rfl rfl ?_
    refine r_bipush C dX11_mixes_30 (by decide) ?_
    refine r_iconst C dX11_mixes_32 ?_
    refine r_aload_n C 0 dX11_mixes_33 rfl rfl ?_
    refine r_iload_n C 1 dX11_mixes_34 rfl rfl ?_
    refine r_iload C 4 dX11_mixes_35 rfl ?_
    obtain ⟨u9, eu9, h⟩ := bs h
    obtain ⟨q8, eq8, h⟩ := bs h
    refine r_callV C (As := [vI x1, vI x4]) (b := a0) (rest := [vI 0, vI 45, vO a0]) (st1 := [vI q8.1, vI 0, vI 45, vO a0]) (v := some (vI q8.1)) (r := (RX11, TX11, 38)) (ci := 9) rfl eu9 (m_X11_of C.tr eq8) (lw_V q1629 q1631 qs70 q133 q1632) rfl hdX11_of rfl rfl (Nat.le_of_ble_eq_true rfl) ⟨by decide, by decide⟩ dX11_mixes_37 rfl ?_
    obtain ⟨u11, eu11, h⟩ := bs h
    obtain ⟨q10, eq10, h⟩ := bs h
    refine r_callV C (As := [vI 45, vI 0, vI q8.1]) (b := a0) (rest := []) (st1 := []) (v := none) (r := (RX11, TX11, 38)) (ci := 9) rfl eu11 (m_X11_put C.tr eq10) (lw_V q1621 q1623 qs68 q133 q1624) rfl hdX11_put rfl rfl (Nat.le_of_ble_eq_true rfl) ⟨by decide, by decide⟩ dX11_mixes_40 rfl ?_
    refine r_iconst C dX11_mixes_43 ?_
    refine r_istore C [(5, vI 0), (0, vO a0), (1, vI x1), (2, vI x2), (3, vI x3), (4, vI x4)] dX11_mixes_44 (by decide) rfl ?_
    refine r_sub [1, 2, 3, 4, 5, 0] rfl ?_
    exact w_X11_mixes_l46 (fin := fin) C h hK
noncomputable def s_X11_mixes_l16 (a0 : Nat) (x1 : Int) (x2 : Int) (x3 : Int) (x4 : Int) (μ : Me) : Option (Me) :=
  whileO (fun s : Int × Me => s_X11_mixes_l16_st a0 x1 x2 x3 s.1 s.2) (x4, μ)
theorem e_X11_mixes_l16 (a0 : Nat) (x1 : Int) (x2 : Int) (x3 : Int) (x4 : Int) (μ : Me) : s_X11_mixes_l16 a0 x1 x2 x3 x4 μ = (s_X11_mixes_l16_st a0 x1 x2 x3 x4 μ).bind fun x => x.elim (fun s : Int × Me => s_X11_mixes_l16 a0 x1 x2 x3 s.1 s.2) some := whileO_eq _ _
theorem w_X11_mixes_l16 {Z : Zt} {fin : Me} {w : (Me)} (C : CX Z yX11_mixes cX11_mixes none 4 6) {a0 : Nat} {x1 : Int} {x2 : Int} {x3 : Int} {x4 : Int} {μ : Me} (h : s_X11_mixes_l16 a0 x1 x2 x3 x4 μ = some w) (hK : (fun r : Me => r = fin) w) : WL Z (QN Z none fin) μ 16 [(0, vO a0), (1, vI x1), (2, vI x2), (3, vI x3), (4, vI x4)] [] := by
  refine whileO_walk (w := w) (fun s : Int × Me => WL Z (QN Z none fin) s.2 16 [(0, vO a0), (1, vI x1), (2, vI x2), (3, vI x3), (4, vI s.1)] []) (fun s v h2 hi hr => ?_) (x4, μ) h
  refine w_X11_mixes_l16_st (fin := fin) C h2 ?_
  cases v with
  | inl s2 => exact hi s2 rfl
  | inr r => have e := hr r rfl; subst e; exact hK
noncomputable def s_X11_mixes (a0 : Nat) (x1 : Int) (x2 : Int) (μ : Me) : Option (Me) :=
  (gR μ 9 a0 4).bind fun v1 =>
  (aI μ 101 v1 x1).bind fun v2 =>
  (ck μ 9 a0).bind fun _ =>
  (s_X11_clears a0 x2 v2 μ).bind fun q3 =>
  s_X11_mixes_l16 a0 x1 x2 v2 0 q3
theorem w_X11_mixes {Z : Zt} {fin : Me} {w : Me} (C : CX Z yX11_mixes cX11_mixes none 4 6) {a0 : Nat} {x1 : Int} {x2 : Int} {μ : Me} (h : s_X11_mixes a0 x1 x2 μ = some w) (hK : w = fin) : WL Z (QN Z none fin) μ 0 [(0, vO a0), (1, vI x1), (2, vI x2)] [] := by
  unfold s_X11_mixes at h
  refine r_aload_n C 0 dX11_mixes_0 rfl rfl ?_
  obtain ⟨v1, ev1, h⟩ := bs h
  refine r_getR C (c := 9) (r := (RX11, TX11, 38)) rfl 4 (by decide) rfl ev1 q1317 dX11_mixes_1 ?_
  refine r_iload_n C 1 dX11_mixes_4 rfl rfl ?_
  obtain ⟨v2, ev2, h⟩ := bs h
  refine r_iald C ev2 dX11_mixes_5 ?_
  refine r_istore_n C [(3, vI v2), (0, vO a0), (1, vI x1), (2, vI x2)] dX11_mixes_6 rfl (by decide) rfl ?_
  refine r_aload_n C 1 dX11_mixes_7 rfl rfl ?_
  refine r_iload_n C 3 dX11_mixes_8 rfl rfl ?_
  refine r_iload_n C 0 dX11_mixes_9 rfl rfl ?_
  obtain ⟨u4, eu4, h⟩ := bs h
  obtain ⟨q3, eq3, h⟩ := bs h
  refine r_callV C (As := [vI x2, vI v2]) (b := a0) (rest := []) (st1 := []) (v := none) (r := (RX11, TX11, 38)) (ci := 9) rfl eu4 (m_X11_clears C.tr eq3) (lw_V q1645 q1647 qs73 q133 q1648) rfl hdX11_clears rfl rfl (Nat.le_of_ble_eq_true rfl) ⟨by decide, by decide⟩ dX11_mixes_10 rfl ?_
  refine r_iconst C dX11_mixes_13 ?_
  refine r_istore C [(4, vI 0), (3, vI v2), (0, vO a0), (1, vI x1), (2, vI x2)] dX11_mixes_14 (by decide) rfl ?_
  refine r_sub [2, 3, 4, 1, 0] rfl ?_
  exact w_X11_mixes_l16 (fin := fin) C h hK
theorem hdX11_mixes : zhd yX11_mixes 2 := by decide +kernel
theorem m_X11_mixes {l : Launch} {D : va_G} {b0 : Nat} (hl : l.stackTraces = false) {a0 : Nat} {x1 : Int} {x2 : Int} {μ : Me} {w : Me} (h : s_X11_mixes a0 x1 x2 μ = some w) : MN l D b0 yX11_mixes (ws_ yX11_mixes cX11_mixes 6 none) 4 [vO a0, vI x1, vI x2] μ none w :=
  MN.of hl (by decide +kernel) (Nat.le_of_ble_eq_true rfl) (fun Z C _ _ => w_X11_mixes C h rfl)
noncomputable def s_X11_isLike_l24_st (a0 : Nat) (x1 : Int) (x2 : Int) (x3 : Int) (x4 : Int) (μ : Me) : Option ((Int × Int × Me) ⊕ (Int × Me)) :=
  (if w32 x3 = 0 then
  (bz2 x3).bind fun _ =>
  some (.inr (x3, μ))
  else
  (gR μ 9 a0 4).bind fun v8 =>
  (aI μ 101 v8 x1).bind fun v9 =>
  (if w32 v9 < w32 x4 then
  (bz2 x3).bind fun _ =>
  some (.inr (x3, μ))
  else
  (ck μ 9 a0).bind fun _ =>
  (s_X11_of a0 x1 x4 μ).bind fun q12 =>
  (ck q12.2 9 a0).bind fun _ =>
  (s_X11_of a0 x2 x4 q12.2).bind fun q14 =>
  (if w32 q12.1 = w32 q14.1 then
  some (.inl (1, (x4 + 1), q14.2))
  else
  some (.inl (0, (x4 + 1), q14.2)))))
theorem w_X11_isLike_l24_st {Z : Zt} {fin : Int × Me} {w : ((Int × Int × Me) ⊕ (Int × Me))} (C : CX Z yX11_isLike cX11_isLike (some .boolean) 2 5) {a0 : Nat} {x1 : Int} {x2 : Int} {x3 : Int} {x4 : Int} {μ : Me} (h : s_X11_isLike_l24_st a0 x1 x2 x3 x4 μ = some w) (hK : (Sum.elim (fun s : Int × Int × Me => WL Z (QN Z (some (vI fin.1)) fin.2) s.2.2 24 [(0, vO a0), (1, vI x1), (2, vI x2), (3, vI s.1), (4, vI s.2.1)] []) (fun r : Int × Me => r = fin)) w) : WL Z (QN Z (some (vI fin.1)) fin.2) μ 24 [(0, vO a0), (1, vI x1), (2, vI x2), (3, vI x3), (4, vI x4)] [] := by
  unfold s_X11_isLike_l24_st at h
  refine r_iload_n C 3 dX11_isLike_24 rfl rfl ?_
  refine r_if_eq C dX11_isLike_25 (tgt := 68) (by decide) (fun c6 => ?_) (fun c6 => ?_)
  · have h := it_ h c6
    refine r_iload_n C 3 dX11_isLike_68 rfl rfl ?_
    obtain ⟨u7, eu7, h⟩ := bs h
    cases h
    exact r_zret C (bz2_ok eu7) hK dX11_isLike_69
  · have h := ie_ h c6
    refine r_iload C 4 dX11_isLike_28 rfl ?_
    refine r_aload_n C 0 dX11_isLike_30 rfl rfl ?_
    obtain ⟨v8, ev8, h⟩ := bs h
    refine r_getR C (c := 9) (r := (RX11, TX11, 38)) rfl 4 (by decide) rfl ev8 q1317 dX11_isLike_31 ?_
    refine r_iload_n C 1 dX11_isLike_34 rfl rfl ?_
    obtain ⟨v9, ev9, h⟩ := bs h
    refine r_iald C ev9 dX11_isLike_35 ?_
    refine r_icmp_gt C dX11_isLike_36 (tgt := 68) (by decide) (fun c10 => ?_) (fun c10 => ?_)
    · have h := it_ h c10
      refine r_iload_n C 3 dX11_isLike_68 rfl rfl ?_
      obtain ⟨u11, eu11, h⟩ := bs h
      cases h
      exact r_zret C (bz2_ok eu11) hK dX11_isLike_69
    · have h := ie_ h c10
      refine r_aload_n C 0 dX11_isLike_39 rfl rfl ?_
      refine r_iload_n C 1 dX11_isLike_40 rfl rfl ?_
      refine r_iload C 4 dX11_isLike_41 rfl ?_
      obtain ⟨u13, eu13, h⟩ := bs h
      obtain ⟨q12, eq12, h⟩ := bs h
      refine r_callV C (As := [vI x1, vI x4]) (b := a0) (rest := []) (st1 := [vI q12.1]) (v := some (vI q12.1)) (r := (RX11, TX11, 38)) (ci := 9) rfl eu13 (m_X11_of C.tr eq12) (lw_V q1629 q1631 qs70 q133 q1632) rfl hdX11_of rfl rfl (Nat.le_of_ble_eq_true rfl) ⟨by decide, by decide⟩ dX11_isLike_43 rfl ?_
      refine r_aload_n C 0 dX11_isLike_46 rfl rfl ?_
      refine r_iload_n C 2 dX11_isLike_47 rfl rfl ?_
      refine r_iload C 4 dX11_isLike_48 rfl ?_
      obtain ⟨u15, eu15, h⟩ := bs h
      obtain ⟨q14, eq14, h⟩ := bs h
      refine r_callV C (As := [vI x2, vI x4]) (b := a0) (rest := [vI q12.1]) (st1 := [vI q14.1, vI q12.1]) (v := some (vI q14.1)) (r := (RX11, TX11, 38)) (ci := 9) rfl eu15 (m_X11_of C.tr eq14) (lw_V q1629 q1631 qs70 q133 q1632) rfl hdX11_of rfl rfl (Nat.le_of_ble_eq_true rfl) ⟨by decide, by decide⟩ dX11_isLike_50 rfl ?_
      refine r_icmp_ne C dX11_isLike_53 (tgt := 60) (by decide) (fun c16 => ?_) (fun c16 => ?_)
      · have h := ie_ h c16
        refine r_iconst C dX11_isLike_60 ?_
        refine r_istore_n C [(3, vI 0), (0, vO a0), (1, vI x1), (2, vI x2), (4, vI x4)] dX11_isLike_61 rfl (by decide) rfl ?_
        refine r_iinc C 4 [(4, vI (x4 + 1)), (3, vI 0), (0, vO a0), (1, vI x1), (2, vI x2)] dX11_isLike_62 rfl (by decide) rfl ?_
        refine r_goto C dX11_isLike_65 (tgt := 24) (by decide) ?_
        cases h
        refine r_sub [2, 3, 4, 1, 0] rfl ?_
        exact hK
      · have h := it_ h c16
        refine r_iconst C dX11_isLike_56 ?_
        refine r_goto C dX11_isLike_57 (tgt := 61) (by decide) ?_
        refine r_istore_n C [(3, vI 1), (0, vO a0), (1, vI x1), (2, vI x2), (4, vI x4)] dX11_isLike_61 rfl (by decide) rfl ?_
        refine r_iinc C 4 [(4, vI (x4 + 1)), (3, vI 1), (0, vO a0), (1, vI x1), (2, vI x2)] dX11_isLike_62 rfl (by decide) rfl ?_
        refine r_goto C dX11_isLike_65 (tgt := 24) (by decide) ?_
        cases h
        refine r_sub [2, 3, 4, 1, 0] rfl ?_
        exact hK
noncomputable def s_X11_isLike_l24 (a0 : Nat) (x1 : Int) (x2 : Int) (x3 : Int) (x4 : Int) (μ : Me) : Option (Int × Me) :=
  whileO (fun s : Int × Int × Me => s_X11_isLike_l24_st a0 x1 x2 s.1 s.2.1 s.2.2) (x3, x4, μ)
theorem e_X11_isLike_l24 (a0 : Nat) (x1 : Int) (x2 : Int) (x3 : Int) (x4 : Int) (μ : Me) : s_X11_isLike_l24 a0 x1 x2 x3 x4 μ = (s_X11_isLike_l24_st a0 x1 x2 x3 x4 μ).bind fun x => x.elim (fun s : Int × Int × Me => s_X11_isLike_l24 a0 x1 x2 s.1 s.2.1 s.2.2) some := whileO_eq _ _
theorem w_X11_isLike_l24 {Z : Zt} {fin : Int × Me} {w : (Int × Me)} (C : CX Z yX11_isLike cX11_isLike (some .boolean) 2 5) {a0 : Nat} {x1 : Int} {x2 : Int} {x3 : Int} {x4 : Int} {μ : Me} (h : s_X11_isLike_l24 a0 x1 x2 x3 x4 μ = some w) (hK : (fun r : Int × Me => r = fin) w) : WL Z (QN Z (some (vI fin.1)) fin.2) μ 24 [(0, vO a0), (1, vI x1), (2, vI x2), (3, vI x3), (4, vI x4)] [] := by
  refine whileO_walk (w := w) (fun s : Int × Int × Me => WL Z (QN Z (some (vI fin.1)) fin.2) s.2.2 24 [(0, vO a0), (1, vI x1), (2, vI x2), (3, vI s.1), (4, vI s.2.1)] []) (fun s v h2 hi hr => ?_) (x3, x4, μ) h
  refine w_X11_isLike_l24_st (fin := fin) C h2 ?_
  cases v with
  | inl s2 => exact hi s2 rfl
  | inr r => have e := hr r rfl; subst e; exact hK
noncomputable def s_X11_isLike (a0 : Nat) (x1 : Int) (x2 : Int) (μ : Me) : Option (Int × Me) :=
  (gR μ 9 a0 4).bind fun v1 =>
  (aI μ 101 v1 x1).bind fun v2 =>
  (gR μ 9 a0 4).bind fun v3 =>
  (aI μ 101 v3 x2).bind fun v4 =>
  (if w32 v2 = w32 v4 then
  s_X11_isLike_l24 a0 x1 x2 1 0 μ
  else
  s_X11_isLike_l24 a0 x1 x2 0 0 μ)
theorem w_X11_isLike {Z : Zt} {fin : Int × Me} {w : Int × Me} (C : CX Z yX11_isLike cX11_isLike (some .boolean) 2 5) {a0 : Nat} {x1 : Int} {x2 : Int} {μ : Me} (h : s_X11_isLike a0 x1 x2 μ = some w) (hK : w = fin) : WL Z (QN Z (some (vI fin.1)) fin.2) μ 0 [(0, vO a0), (1, vI x1), (2, vI x2)] [] := by
  unfold s_X11_isLike at h
  refine r_aload_n C 0 dX11_isLike_0 rfl rfl ?_
  obtain ⟨v1, ev1, h⟩ := bs h
  refine r_getR C (c := 9) (r := (RX11, TX11, 38)) rfl 4 (by decide) rfl ev1 q1317 dX11_isLike_1 ?_
  refine r_iload_n C 1 dX11_isLike_4 rfl rfl ?_
  obtain ⟨v2, ev2, h⟩ := bs h
  refine r_iald C ev2 dX11_isLike_5 ?_
  refine r_aload_n C 0 dX11_isLike_6 rfl rfl ?_
  obtain ⟨v3, ev3, h⟩ := bs h
  refine r_getR C (c := 9) (r := (RX11, TX11, 38)) rfl 4 (by decide) rfl ev3 q1317 dX11_isLike_7 ?_
  refine r_iload_n C 2 dX11_isLike_10 rfl rfl ?_
  obtain ⟨v4, ev4, h⟩ := bs h
  refine r_iald C ev4 dX11_isLike_11 ?_
  refine r_icmp_ne C dX11_isLike_12 (tgt := 19) (by decide) (fun c5 => ?_) (fun c5 => ?_)
  · have h := ie_ h c5
    refine r_iconst C dX11_isLike_19 ?_
    refine r_istore_n C [(3, vI 0), (0, vO a0), (1, vI x1), (2, vI x2)] dX11_isLike_20 rfl (by decide) rfl ?_
    refine r_iconst C dX11_isLike_21 ?_
    refine r_istore C [(4, vI 0), (3, vI 0), (0, vO a0), (1, vI x1), (2, vI x2)] dX11_isLike_22 (by decide) rfl ?_
    refine r_sub [2, 3, 4, 1, 0] rfl ?_
    exact w_X11_isLike_l24 (fin := fin) C h hK
  · have h := it_ h c5
    refine r_iconst C dX11_isLike_15 ?_
    refine r_goto C dX11_isLike_16 (tgt := 20) (by decide) ?_
    refine r_istore_n C [(3, vI 1), (0, vO a0), (1, vI x1), (2, vI x2)] dX11_isLike_20 rfl (by decide) rfl ?_
    refine r_iconst C dX11_isLike_21 ?_
    refine r_istore C [(4, vI 0), (3, vI 1), (0, vO a0), (1, vI x1), (2, vI x2)] dX11_isLike_22 (by decide) rfl ?_
    refine r_sub [2, 3, 4, 1, 0] rfl ?_
    exact w_X11_isLike_l24 (fin := fin) C h hK
theorem hdX11_isLike : zhd yX11_isLike 2 := by decide +kernel
theorem m_X11_isLike {l : Launch} {D : va_G} {b0 : Nat} (hl : l.stackTraces = false) {a0 : Nat} {x1 : Int} {x2 : Int} {μ : Me} {w : Int × Me} (h : s_X11_isLike a0 x1 x2 μ = some w) : MN l D b0 yX11_isLike (ws_ yX11_isLike cX11_isLike 5 (some .boolean)) 2 [vO a0, vI x1, vI x2] μ (some (vI w.1)) w.2 :=
  MN.of hl (by decide +kernel) (Nat.le_of_ble_eq_true rfl) (fun Z C _ _ => w_X11_isLike C h rfl)
noncomputable def s_X11_mixesForm_b54 (a0 : Nat)  (μ : Me) : Option (Int × Me) :=
  (ck μ 9 a0).bind fun _ =>
  (s_X11_isLike a0 40 41 μ).bind fun q8 =>
  (if w32 q8.1 = 0 then
  some (1, q8.2)
  else
  some (0, q8.2))
theorem w_X11_mixesForm_b54 {Z : Zt} {fin : Int × Me} {w : (Int × Me)} (C : CX Z yX11_mixesForm cX11_mixesForm (some .boolean) 5 3) {a0 : Nat}  {μ : Me} (h : s_X11_mixesForm_b54 a0 μ = some w) (hK : (fun r : Int × Me => r = fin) w) : WL Z (QN Z (some (vI fin.1)) fin.2) μ 54 [(0, vO a0)] [] := by
  unfold s_X11_mixesForm_b54 at h
  refine r_aload_n C 0 dX11_mixesForm_54 rfl rfl ?_
  refine r_bipush C dX11_mixesForm_55 (by decide) ?_
  refine r_bipush C dX11_mixesForm_57 (by decide) ?_
  obtain ⟨u9, eu9, h⟩ := bs h
  obtain ⟨q8, eq8, h⟩ := bs h
  refine r_callV C (As := [vI 40, vI 41]) (b := a0) (rest := []) (st1 := [vI q8.1]) (v := some (vI q8.1)) (r := (RX11, TX11, 38)) (ci := 9) rfl eu9 (m_X11_isLike C.tr eq8) (lw_V q1653 q1655 qs75 q133 q1656) rfl hdX11_isLike rfl rfl (Nat.le_of_ble_eq_true rfl) ⟨by decide, by decide⟩ dX11_mixesForm_59 rfl ?_
  refine r_if_ne C dX11_mixesForm_62 (tgt := 69) (by decide) (fun c10 => ?_) (fun c10 => ?_)
  · have h := ie_ h c10
    refine r_iconst C dX11_mixesForm_69 ?_
    cases h
    exact r_zret C (Or.inl rfl) hK dX11_mixesForm_70
  · have h := it_ h c10
    refine r_iconst C dX11_mixesForm_65 ?_
    refine r_goto C dX11_mixesForm_66 (tgt := 70) (by decide) ?_
    cases h
    exact r_zret C (Or.inr rfl) hK dX11_mixesForm_70
noncomputable def s_X11_mixesForm_l17_st (a0 : Nat) (x1 : Int) (x2 : Int) (μ : Me) : Option ((Int × Me) ⊕ (Int × Me)) :=
  (gR μ 9 a0 4).bind fun v5 =>
  (aI μ 101 v5 41).bind fun v6 =>
  (if w32 v6 < w32 x2 then
  (s_X11_mixesForm_b54 a0 μ).map Sum.inr
  else
  (gR μ 9 a0 1).bind fun v11 =>
  (s_X11_formAt x1 μ).bind fun q12 =>
  (ck q12.2 9 a0).bind fun _ =>
  (s_X11_of a0 41 x2 q12.2).bind fun q13 =>
  (uI q13.2 v11 ((q12.1 + 1) + x2) q13.1).bind fun m15 =>
  some (.inl ((x2 + 1), m15)))
theorem w_X11_mixesForm_l17_st {Z : Zt} {fin : Int × Me} {w : ((Int × Me) ⊕ (Int × Me))} (C : CX Z yX11_mixesForm cX11_mixesForm (some .boolean) 5 3) {a0 : Nat} {x1 : Int} {x2 : Int} {μ : Me} (h : s_X11_mixesForm_l17_st a0 x1 x2 μ = some w) (hK : (Sum.elim (fun s : Int × Me => WL Z (QN Z (some (vI fin.1)) fin.2) s.2 17 [(0, vO a0), (1, vI x1), (2, vI s.1)] []) (fun r : Int × Me => r = fin)) w) : WL Z (QN Z (some (vI fin.1)) fin.2) μ 17 [(0, vO a0), (1, vI x1), (2, vI x2)] [] := by
  unfold s_X11_mixesForm_l17_st at h
  refine r_iload_n C 2 dX11_mixesForm_17 rfl rfl ?_
  refine r_aload_n C 0 dX11_mixesForm_18 rfl rfl ?_
  obtain ⟨v5, ev5, h⟩ := bs h
  refine r_getR C (c := 9) (r := (RX11, TX11, 38)) rfl 4 (by decide) rfl ev5 q1317 dX11_mixesForm_19 ?_
  refine r_bipush C dX11_mixesForm_22 (by decide) ?_
  obtain ⟨v6, ev6, h⟩ := bs h
  refine r_iald C ev6 dX11_mixesForm_24 ?_
  refine r_icmp_gt C dX11_mixesForm_25 (tgt := 54) (by decide) (fun c7 => ?_) (fun c7 => ?_)
  · have h := it_ h c7
    obtain ⟨z, hz, ez⟩ := ms_ h; clear h; subst ez; have h := hz; clear hz
    refine r_sub [0] rfl ?_
    exact w_X11_mixesForm_b54 (fin := fin) C h hK
  · have h := ie_ h c7
    refine r_aload_n C 0 dX11_mixesForm_28 rfl rfl ?_
    obtain ⟨v11, ev11, h⟩ := bs h
    refine r_getR C (c := 9) (r := (RX11, TX11, 38)) rfl 1 (by decide) rfl ev11 q1314 dX11_mixesForm_29 ?_
    refine r_iload_n C 1 dX11_mixesForm_32 rfl rfl ?_
    obtain ⟨q12, eq12, h⟩ := bs h
    refine r_callS C (As := [vI x1]) (rest := [vO v11]) (st1 := [vI q12.1, vO v11]) (v := some (vI q12.1)) (m_X11_formAt C.tr eq12) (lw_S q1515 q1516 q133 q1517) hdX11_formAt rfl rfl (Nat.le_of_ble_eq_true rfl) ⟨by decide, by decide⟩ dX11_mixesForm_33 rfl ?_
    refine r_iconst C dX11_mixesForm_36 ?_
    refine r_iadd C dX11_mixesForm_37 ?_
    refine r_iload_n C 2 dX11_mixesForm_38 rfl rfl ?_
    refine r_iadd C dX11_mixesForm_39 ?_
    refine r_aload_n C 0 dX11_mixesForm_40 rfl rfl ?_
    refine r_bipush C dX11_mixesForm_41 (by decide) ?_
    refine r_iload_n C 2 dX11_mixesForm_43 rfl rfl ?_
    obtain ⟨u14, eu14, h⟩ := bs h
    obtain ⟨q13, eq13, h⟩ := bs h
    refine r_callV C (As := [vI 41, vI x2]) (b := a0) (rest := [vI ((q12.1 + 1) + x2), vO v11]) (st1 := [vI q13.1, vI ((q12.1 + 1) + x2), vO v11]) (v := some (vI q13.1)) (r := (RX11, TX11, 38)) (ci := 9) rfl eu14 (m_X11_of C.tr eq13) (lw_V q1629 q1631 qs70 q133 q1632) rfl hdX11_of rfl rfl (Nat.le_of_ble_eq_true rfl) ⟨by decide, by decide⟩ dX11_mixesForm_44 rfl ?_
    obtain ⟨m15, em15, h⟩ := bs h
    refine r_iast C em15 dX11_mixesForm_47 ?_
    refine r_iinc C 2 [(2, vI (x2 + 1)), (0, vO a0), (1, vI x1)] dX11_mixesForm_48 rfl (by decide) rfl ?_
    refine r_goto C dX11_mixesForm_51 (tgt := 17) (by decide) ?_
    cases h
    refine r_sub [1, 2, 0] rfl ?_
    exact hK
noncomputable def s_X11_mixesForm_l17 (a0 : Nat) (x1 : Int) (x2 : Int) (μ : Me) : Option (Int × Me) :=
  whileO (fun s : Int × Me => s_X11_mixesForm_l17_st a0 x1 s.1 s.2) (x2, μ)
theorem e_X11_mixesForm_l17 (a0 : Nat) (x1 : Int) (x2 : Int) (μ : Me) : s_X11_mixesForm_l17 a0 x1 x2 μ = (s_X11_mixesForm_l17_st a0 x1 x2 μ).bind fun x => x.elim (fun s : Int × Me => s_X11_mixesForm_l17 a0 x1 s.1 s.2) some := whileO_eq _ _
theorem w_X11_mixesForm_l17 {Z : Zt} {fin : Int × Me} {w : (Int × Me)} (C : CX Z yX11_mixesForm cX11_mixesForm (some .boolean) 5 3) {a0 : Nat} {x1 : Int} {x2 : Int} {μ : Me} (h : s_X11_mixesForm_l17 a0 x1 x2 μ = some w) (hK : (fun r : Int × Me => r = fin) w) : WL Z (QN Z (some (vI fin.1)) fin.2) μ 17 [(0, vO a0), (1, vI x1), (2, vI x2)] [] := by
  refine whileO_walk (w := w) (fun s : Int × Me => WL Z (QN Z (some (vI fin.1)) fin.2) s.2 17 [(0, vO a0), (1, vI x1), (2, vI s.1)] []) (fun s v h2 hi hr => ?_) (x2, μ) h
  refine w_X11_mixesForm_l17_st (fin := fin) C h2 ?_
  cases v with
  | inl s2 => exact hi s2 rfl
  | inr r => have e := hr r rfl; subst e; exact hK
noncomputable def s_X11_mixesForm (a0 : Nat) (x1 : Int) (μ : Me) : Option (Int × Me) :=
  (ck μ 9 a0).bind fun _ =>
  (s_X11_takes a0 40 x1 μ).bind fun q1 =>
  (ck q1 9 a0).bind fun _ =>
  (s_X11_mixes a0 40 41 q1).bind fun q3 =>
  s_X11_mixesForm_l17 a0 x1 0 q3
theorem w_X11_mixesForm {Z : Zt} {fin : Int × Me} {w : Int × Me} (C : CX Z yX11_mixesForm cX11_mixesForm (some .boolean) 5 3) {a0 : Nat} {x1 : Int} {μ : Me} (h : s_X11_mixesForm a0 x1 μ = some w) (hK : w = fin) : WL Z (QN Z (some (vI fin.1)) fin.2) μ 0 [(0, vO a0), (1, vI x1)] [] := by
  unfold s_X11_mixesForm at h
  refine r_aload_n C 0 dX11_mixesForm_0 rfl rfl ?_
  refine r_bipush C dX11_mixesForm_1 (by decide) ?_
  refine r_iload_n C 1 dX11_mixesForm_3 rfl rfl ?_
  obtain ⟨u2, eu2, h⟩ := bs h
  obtain ⟨q1, eq1, h⟩ := bs h
  refine r_callV C (As := [vI 40, vI x1]) (b := a0) (rest := []) (st1 := []) (v := none) (r := (RX11, TX11, 38)) (ci := 9) rfl eu2 (m_X11_takes C.tr eq1) (lw_V q1617 q1619 qs67 q133 q1620) rfl hdX11_takes rfl rfl (Nat.le_of_ble_eq_true rfl) ⟨by decide, by decide⟩ dX11_mixesForm_4 rfl ?_
  refine r_aload_n C 0 dX11_mixesForm_7 rfl rfl ?_
  refine r_bipush C dX11_mixesForm_8 (by decide) ?_
  refine r_bipush C dX11_mixesForm_10 (by decide) ?_
  obtain ⟨u4, eu4, h⟩ := bs h
  obtain ⟨q3, eq3, h⟩ := bs h
  refine r_callV C (As := [vI 40, vI 41]) (b := a0) (rest := []) (st1 := []) (v := none) (r := (RX11, TX11, 38)) (ci := 9) rfl eu4 (m_X11_mixes C.tr eq3) (lw_V q1641 q1643 qs72 q133 q1644) rfl hdX11_mixes rfl rfl (Nat.le_of_ble_eq_true rfl) ⟨by decide, by decide⟩ dX11_mixesForm_12 rfl ?_
  refine r_iconst C dX11_mixesForm_15 ?_
  refine r_istore_n C [(2, vI 0), (0, vO a0), (1, vI x1)] dX11_mixesForm_16 rfl (by decide) rfl ?_
  refine r_sub [1, 2, 0] rfl ?_
  exact w_X11_mixesForm_l17 (fin := fin) C h hK
theorem hdX11_mixesForm : zhd yX11_mixesForm 1 := by decide +kernel
theorem m_X11_mixesForm {l : Launch} {D : va_G} {b0 : Nat} (hl : l.stackTraces = false) {a0 : Nat} {x1 : Int} {μ : Me} {w : Int × Me} (h : s_X11_mixesForm a0 x1 μ = some w) : MN l D b0 yX11_mixesForm (ws_ yX11_mixesForm cX11_mixesForm 3 (some .boolean)) 5 [vO a0, vI x1] μ (some (vI w.1)) w.2 :=
  MN.of hl (by decide +kernel) (Nat.le_of_ble_eq_true rfl) (fun Z C _ _ => w_X11_mixesForm C h rfl)
noncomputable def s_X11_mix_b148 (a0 : Nat) (x1 : Int) (x2 : Int)  (μ : Me) : Option (Int × Me) :=
  (gR μ 9 a0 1).bind fun v19 =>
  (uI μ v19 5 0).bind fun m20 =>
  (ck m20 9 a0).bind fun _ =>
  (s_X11_tables a0 x2 m20).bind fun q21 =>
  (ck q21 9 a0).bind fun _ =>
  (s_X11_mixesForm a0 x1 q21).bind fun q23 =>
  (bz2 q23.1).bind fun _ =>
  some (q23.1, q23.2)
theorem w_X11_mix_b148 {Z : Zt} {fin : Int × Me} {w : (Int × Me)} (C : CX Z yX11_mix cX11_mix (some .boolean) 6 5) {a0 : Nat} {x1 : Int} {x2 : Int}  {μ : Me} (h : s_X11_mix_b148 a0 x1 x2 μ = some w) (hK : (fun r : Int × Me => r = fin) w) : WL Z (QN Z (some (vI fin.1)) fin.2) μ 148 [(0, vO a0), (1, vI x1), (2, vI x2)] [] := by
  unfold s_X11_mix_b148 at h
  refine r_aload_n C 0 dX11_mix_148 rfl rfl ?_
  obtain ⟨v19, ev19, h⟩ := bs h
  refine r_getR C (c := 9) (r := (RX11, TX11, 38)) rfl 1 (by decide) rfl ev19 q1314 dX11_mix_149 ?_
  refine r_iconst C dX11_mix_152 ?_
  refine r_iconst C dX11_mix_153 ?_
  obtain ⟨m20, em20, h⟩ := bs h
  refine r_iast C em20 dX11_mix_154 ?_
  refine r_aload_n C 0 dX11_mix_155 rfl rfl ?_
  refine r_iload_n C 2 dX11_mix_156 rfl rfl ?_
  obtain ⟨u22, eu22, h⟩ := bs h
  obtain ⟨q21, eq21, h⟩ := bs h
  refine r_callV C (As := [vI x2]) (b := a0) (rest := []) (st1 := []) (v := none) (r := (RX11, TX11, 38)) (ci := 9) rfl eu22 (m_X11_tables C.tr eq21) (lw_V q1561 q1563 qs58 q133 q1564) rfl hdX11_tables rfl rfl (Nat.le_of_ble_eq_true rfl) ⟨by decide, by decide⟩ dX11_mix_157 rfl ?_
  refine r_aload_n C 0 dX11_mix_160 rfl rfl ?_
  refine r_iload_n C 1 dX11_mix_161 rfl rfl ?_
  obtain ⟨u24, eu24, h⟩ := bs h
  obtain ⟨q23, eq23, h⟩ := bs h
  refine r_callV C (As := [vI x1]) (b := a0) (rest := []) (st1 := [vI q23.1]) (v := some (vI q23.1)) (r := (RX11, TX11, 38)) (ci := 9) rfl eu24 (m_X11_mixesForm C.tr eq23) (lw_V q1637 q1639 qs71 q133 q1640) rfl hdX11_mixesForm rfl rfl (Nat.le_of_ble_eq_true rfl) ⟨by decide, by decide⟩ dX11_mix_162 rfl ?_
  obtain ⟨u25, eu25, h⟩ := bs h
  cases h
  exact r_zret C (bz2_ok eu25) hK dX11_mix_165
noncomputable def s_X11_mix_l118_st (a0 : Nat) (x1 : Int) (x2 : Int) (x3 : Int) (x4 : Int) (μ : Me) : Option ((Int × Me) ⊕ (Int × Me)) :=
  (if w32 4 ≤ w32 x4 then
  (s_X11_mix_b148 a0 x1 x2 μ).map Sum.inr
  else
  (gR μ 9 a0 1).bind fun v26 =>
  (ck μ 9 a0).bind fun _ =>
  (s_X11_ofTable a0 x2 x4 μ).bind fun q27 =>
  (uI q27.2 v26 ((x3 + 1) + x4) q27.1).bind fun m29 =>
  some (.inl ((x4 + 1), m29)))
theorem w_X11_mix_l118_st {Z : Zt} {fin : Int × Me} {w : ((Int × Me) ⊕ (Int × Me))} (C : CX Z yX11_mix cX11_mix (some .boolean) 6 5) {a0 : Nat} {x1 : Int} {x2 : Int} {x3 : Int} {x4 : Int} {μ : Me} (h : s_X11_mix_l118_st a0 x1 x2 x3 x4 μ = some w) (hK : (Sum.elim (fun s : Int × Me => WL Z (QN Z (some (vI fin.1)) fin.2) s.2 118 [(0, vO a0), (1, vI x1), (2, vI x2), (3, vI x3), (4, vI s.1)] []) (fun r : Int × Me => r = fin)) w) : WL Z (QN Z (some (vI fin.1)) fin.2) μ 118 [(0, vO a0), (1, vI x1), (2, vI x2), (3, vI x3), (4, vI x4)] [] := by
  unfold s_X11_mix_l118_st at h
  refine r_iload C 4 dX11_mix_118 rfl ?_
  refine r_iconst C dX11_mix_120 ?_
  refine r_icmp_ge C dX11_mix_121 (tgt := 148) (by decide) (fun c18 => ?_) (fun c18 => ?_)
  · have h := it_ h c18
    obtain ⟨z, hz, ez⟩ := ms_ h; clear h; subst ez; have h := hz; clear hz
    refine r_sub [0, 1, 2] rfl ?_
    exact w_X11_mix_b148 (fin := fin) C h hK
  · have h := ie_ h c18
    refine r_aload_n C 0 dX11_mix_124 rfl rfl ?_
    obtain ⟨v26, ev26, h⟩ := bs h
    refine r_getR C (c := 9) (r := (RX11, TX11, 38)) rfl 1 (by decide) rfl ev26 q1314 dX11_mix_125 ?_
    refine r_iload_n C 3 dX11_mix_128 rfl rfl ?_
    refine r_iconst C dX11_mix_129 ?_
    refine r_iadd C dX11_mix_130 ?_
    refine r_iload C 4 dX11_mix_131 rfl ?_
    refine r_iadd C dX11_mix_133 ?_
    refine r_aload_n C 0 dX11_mix_134 rfl rfl ?_
    refine r_iload_n C 2 dX11_mix_135 rfl rfl ?_
    refine r_iload C 4 dX11_mix_136 rfl ?_
    obtain ⟨u28, eu28, h⟩ := bs h
    obtain ⟨q27, eq27, h⟩ := bs h
    refine r_callV C (As := [vI x2, vI x4]) (b := a0) (rest := [vI ((x3 + 1) + x4), vO v26]) (st1 := [vI q27.1, vI ((x3 + 1) + x4), vO v26]) (v := some (vI q27.1)) (r := (RX11, TX11, 38)) (ci := 9) rfl eu28 (m_X11_ofTable C.tr eq27) (lw_V q1565 q1567 qs59 q133 q1568) rfl hdX11_ofTable rfl rfl (Nat.le_of_ble_eq_true rfl) ⟨by decide, by decide⟩ dX11_mix_138 rfl ?_
    obtain ⟨m29, em29, h⟩ := bs h
    refine r_iast C em29 dX11_mix_141 ?_
    refine r_iinc C 4 [(4, vI (x4 + 1)), (0, vO a0), (1, vI x1), (2, vI x2), (3, vI x3)] dX11_mix_142 rfl (by decide) rfl ?_
    refine r_goto C dX11_mix_145 (tgt := 118) (by decide) ?_
    cases h
    refine r_sub [1, 2, 3, 4, 0] rfl ?_
    exact hK
noncomputable def s_X11_mix_l118 (a0 : Nat) (x1 : Int) (x2 : Int) (x3 : Int) (x4 : Int) (μ : Me) : Option (Int × Me) :=
  whileO (fun s : Int × Me => s_X11_mix_l118_st a0 x1 x2 x3 s.1 s.2) (x4, μ)
theorem e_X11_mix_l118 (a0 : Nat) (x1 : Int) (x2 : Int) (x3 : Int) (x4 : Int) (μ : Me) : s_X11_mix_l118 a0 x1 x2 x3 x4 μ = (s_X11_mix_l118_st a0 x1 x2 x3 x4 μ).bind fun x => x.elim (fun s : Int × Me => s_X11_mix_l118 a0 x1 x2 x3 s.1 s.2) some := whileO_eq _ _
theorem w_X11_mix_l118 {Z : Zt} {fin : Int × Me} {w : (Int × Me)} (C : CX Z yX11_mix cX11_mix (some .boolean) 6 5) {a0 : Nat} {x1 : Int} {x2 : Int} {x3 : Int} {x4 : Int} {μ : Me} (h : s_X11_mix_l118 a0 x1 x2 x3 x4 μ = some w) (hK : (fun r : Int × Me => r = fin) w) : WL Z (QN Z (some (vI fin.1)) fin.2) μ 118 [(0, vO a0), (1, vI x1), (2, vI x2), (3, vI x3), (4, vI x4)] [] := by
  refine whileO_walk (w := w) (fun s : Int × Me => WL Z (QN Z (some (vI fin.1)) fin.2) s.2 118 [(0, vO a0), (1, vI x1), (2, vI x2), (3, vI x3), (4, vI s.1)] []) (fun s v h2 hi hr => ?_) (x4, μ) h
  refine w_X11_mix_l118_st (fin := fin) C h2 ?_
  cases v with
  | inl s2 => exact hi s2 rfl
  | inr r => have e := hr r rfl; subst e; exact hK
noncomputable def s_X11_mix_b93 (a0 : Nat) (x1 : Int) (x2 : Int)  (μ : Me) : Option (Int × Me) :=
  (gR μ 9 a0 1).bind fun v14 =>
  (aI μ 101 v14 4).bind fun v15 =>
  (gR μ 9 a0 1).bind fun v16 =>
  (uI μ v16 (3406 + (5 * (v15 - 1))) x1).bind fun m17 =>
  s_X11_mix_l118 a0 x1 x2 (3406 + (5 * (v15 - 1))) 0 m17
theorem w_X11_mix_b93 {Z : Zt} {fin : Int × Me} {w : (Int × Me)} (C : CX Z yX11_mix cX11_mix (some .boolean) 6 5) {a0 : Nat} {x1 : Int} {x2 : Int}  {μ : Me} (h : s_X11_mix_b93 a0 x1 x2 μ = some w) (hK : (fun r : Int × Me => r = fin) w) : WL Z (QN Z (some (vI fin.1)) fin.2) μ 93 [(0, vO a0), (1, vI x1), (2, vI x2)] [] := by
  unfold s_X11_mix_b93 at h
  refine r_sipush C dX11_mix_93 (by decide) ?_
  refine r_iconst C dX11_mix_96 ?_
  refine r_aload_n C 0 dX11_mix_97 rfl rfl ?_
  obtain ⟨v14, ev14, h⟩ := bs h
  refine r_getR C (c := 9) (r := (RX11, TX11, 38)) rfl 1 (by decide) rfl ev14 q1314 dX11_mix_98 ?_
  refine r_iconst C dX11_mix_101 ?_
  obtain ⟨v15, ev15, h⟩ := bs h
  refine r_iald C ev15 dX11_mix_102 ?_
  refine r_iconst C dX11_mix_103 ?_
  refine r_isub C dX11_mix_104 ?_
  refine r_imul C dX11_mix_105 ?_
  refine r_iadd C dX11_mix_106 ?_
  refine r_istore_n C [(3, vI (3406 + (5 * (v15 - 1)))), (0, vO a0), (1, vI x1), (2, vI x2)] dX11_mix_107 rfl (by decide) rfl ?_
  refine r_aload_n C 1 dX11_mix_108 rfl rfl ?_
  obtain ⟨v16, ev16, h⟩ := bs h
  refine r_getR C (c := 9) (r := (RX11, TX11, 38)) rfl 1 (by decide) rfl ev16 q1314 dX11_mix_109 ?_
  refine r_iload_n C 0 dX11_mix_112 rfl rfl ?_
  refine r_iload_n C 2 dX11_mix_113 rfl rfl ?_
  obtain ⟨m17, em17, h⟩ := bs h
  refine r_iast C em17 dX11_mix_114 ?_
  refine r_iconst C dX11_mix_115 ?_
  refine r_istore C [(4, vI 0), (3, vI (3406 + (5 * (v15 - 1)))), (0, vO a0), (1, vI x1), (2, vI x2)] dX11_mix_116 (by decide) rfl ?_
  refine r_sub [2, 3, 4, 1, 0] rfl ?_
  exact w_X11_mix_l118 (fin := fin) C h hK
noncomputable def s_X11_mix_b80 (a0 : Nat) (x1 : Int) (x2 : Int)  (μ : Me) : Option (Int × Me) :=
  s_X11_mix_b93 a0 x1 x2 μ
theorem w_X11_mix_b80 {Z : Zt} {fin : Int × Me} {w : (Int × Me)} (C : CX Z yX11_mix cX11_mix (some .boolean) 6 5) {a0 : Nat} {x1 : Int} {x2 : Int}  {μ : Me} (h : s_X11_mix_b80 a0 x1 x2 μ = some w) (hK : (fun r : Int × Me => r = fin) w) : WL Z (QN Z (some (vI fin.1)) fin.2) μ 80 [(0, vO a0), (1, vI x1), (2, vI x2)] [] := by
  unfold s_X11_mix_b80 at h
  refine r_goto C dX11_mix_80 (tgt := 93) (by decide) ?_
  exact w_X11_mix_b93 (fin := fin) C h hK
noncomputable def s_X11_mix_l51_st (a0 : Nat) (x1 : Int) (x2 : Int) (x3 : Int) (μ : Me) : Option ((Int × Me) ⊕ (Int × Me)) :=
  (if w32 3606 ≤ w32 (x3 + 5) then
  (s_X11_mix_b80 a0 x1 x2 μ).map Sum.inr
  else
  (gR μ 9 a0 1).bind fun v31 =>
  (gR μ 9 a0 1).bind fun v32 =>
  (aI μ 101 v32 (x3 + 5)).bind fun v33 =>
  (uI μ v31 x3 v33).bind fun m34 =>
  some (.inl ((x3 + 1), m34)))
theorem w_X11_mix_l51_st {Z : Zt} {fin : Int × Me} {w : ((Int × Me) ⊕ (Int × Me))} (C : CX Z yX11_mix cX11_mix (some .boolean) 6 5) {a0 : Nat} {x1 : Int} {x2 : Int} {x3 : Int} {μ : Me} (h : s_X11_mix_l51_st a0 x1 x2 x3 μ = some w) (hK : (Sum.elim (fun s : Int × Me => WL Z (QN Z (some (vI fin.1)) fin.2) s.2 51 [(0, vO a0), (1, vI x1), (2, vI x2), (3, vI s.1)] []) (fun r : Int × Me => r = fin)) w) : WL Z (QN Z (some (vI fin.1)) fin.2) μ 51 [(0, vO a0), (1, vI x1), (2, vI x2), (3, vI x3)] [] := by
  unfold s_X11_mix_l51_st at h
  refine r_iload_n C 3 dX11_mix_51 rfl rfl ?_
  refine r_iconst C dX11_mix_52 ?_
  refine r_iadd C dX11_mix_53 ?_
  refine r_sipush C dX11_mix_54 (by decide) ?_
  refine r_icmp_ge C dX11_mix_57 (tgt := 80) (by decide) (fun c30 => ?_) (fun c30 => ?_)
  · have h := it_ h c30
    obtain ⟨z, hz, ez⟩ := ms_ h; clear h; subst ez; have h := hz; clear hz
    refine r_sub [0, 1, 2] rfl ?_
    exact w_X11_mix_b80 (fin := fin) C h hK
  · have h := ie_ h c30
    refine r_aload_n C 0 dX11_mix_60 rfl rfl ?_
    obtain ⟨v31, ev31, h⟩ := bs h
    refine r_getR C (c := 9) (r := (RX11, TX11, 38)) rfl 1 (by decide) rfl ev31 q1314 dX11_mix_61 ?_
    refine r_iload_n C 3 dX11_mix_64 rfl rfl ?_
    refine r_aload_n C 0 dX11_mix_65 rfl rfl ?_
    obtain ⟨v32, ev32, h⟩ := bs h
    refine r_getR C (c := 9) (r := (RX11, TX11, 38)) rfl 1 (by decide) rfl ev32 q1314 dX11_mix_66 ?_
    refine r_iload_n C 3 dX11_mix_69 rfl rfl ?_
    refine r_iconst C dX11_mix_70 ?_
    refine r_iadd C dX11_mix_71 ?_
    obtain ⟨v33, ev33, h⟩ := bs h
    refine r_iald C ev33 dX11_mix_72 ?_
    obtain ⟨m34, em34, h⟩ := bs h
    refine r_iast C em34 dX11_mix_73 ?_
    refine r_iinc C 3 [(3, vI (x3 + 1)), (0, vO a0), (1, vI x1), (2, vI x2)] dX11_mix_74 rfl (by decide) rfl ?_
    refine r_goto C dX11_mix_77 (tgt := 51) (by decide) ?_
    cases h
    refine r_sub [1, 2, 3, 0] rfl ?_
    exact hK
noncomputable def s_X11_mix_l51 (a0 : Nat) (x1 : Int) (x2 : Int) (x3 : Int) (μ : Me) : Option (Int × Me) :=
  whileO (fun s : Int × Me => s_X11_mix_l51_st a0 x1 x2 s.1 s.2) (x3, μ)
theorem e_X11_mix_l51 (a0 : Nat) (x1 : Int) (x2 : Int) (x3 : Int) (μ : Me) : s_X11_mix_l51 a0 x1 x2 x3 μ = (s_X11_mix_l51_st a0 x1 x2 x3 μ).bind fun x => x.elim (fun s : Int × Me => s_X11_mix_l51 a0 x1 x2 s.1 s.2) some := whileO_eq _ _
theorem w_X11_mix_l51 {Z : Zt} {fin : Int × Me} {w : (Int × Me)} (C : CX Z yX11_mix cX11_mix (some .boolean) 6 5) {a0 : Nat} {x1 : Int} {x2 : Int} {x3 : Int} {μ : Me} (h : s_X11_mix_l51 a0 x1 x2 x3 μ = some w) (hK : (fun r : Int × Me => r = fin) w) : WL Z (QN Z (some (vI fin.1)) fin.2) μ 51 [(0, vO a0), (1, vI x1), (2, vI x2), (3, vI x3)] [] := by
  refine whileO_walk (w := w) (fun s : Int × Me => WL Z (QN Z (some (vI fin.1)) fin.2) s.2 51 [(0, vO a0), (1, vI x1), (2, vI x2), (3, vI s.1)] []) (fun s v h2 hi hr => ?_) (x3, μ) h
  refine w_X11_mix_l51_st (fin := fin) C h2 ?_
  cases v with
  | inl s2 => exact hi s2 rfl
  | inr r => have e := hr r rfl; subst e; exact hK
noncomputable def s_X11_mix_b27 (a0 : Nat) (x1 : Int) (x2 : Int) (t0 : Int) (t1 : Nat) (μ : Me) : Option (Int × Me) :=
  (ck μ 9 t1).bind fun _ =>
  (s_X11_throwsIf t1 t0 1 μ).bind fun q5 =>
  (if w32 q5.1 = 0 then
  (gR q5.2 9 a0 1).bind fun v8 =>
  (aI q5.2 101 v8 4).bind fun v9 =>
  (if w32 v9 = w32 40 then
  s_X11_mix_l51 a0 x1 x2 3406 q5.2
  else
  (gR q5.2 9 a0 1).bind fun v11 =>
  (aI q5.2 101 v11 4).bind fun v12 =>
  (uI q5.2 v11 4 (v12 + 1)).bind fun m13 =>
  s_X11_mix_b93 a0 x1 x2 m13)
  else
  some (0, q5.2))
theorem w_X11_mix_b27 {Z : Zt} {fin : Int × Me} {w : (Int × Me)} (C : CX Z yX11_mix cX11_mix (some .boolean) 6 5) {a0 : Nat} {x1 : Int} {x2 : Int} {t0 : Int} {t1 : Nat} {μ : Me} (h : s_X11_mix_b27 a0 x1 x2 t0 t1 μ = some w) (hK : (fun r : Int × Me => r = fin) w) : WL Z (QN Z (some (vI fin.1)) fin.2) μ 27 [(0, vO a0), (1, vI x1), (2, vI x2)] [vI t0, vO t1] := by
  unfold s_X11_mix_b27 at h
  refine r_iconst C dX11_mix_27 ?_
  obtain ⟨u6, eu6, h⟩ := bs h
  obtain ⟨q5, eq5, h⟩ := bs h
  refine r_callV C (As := [vI t0, vI 1]) (b := t1) (rest := []) (st1 := [vI q5.1]) (v := some (vI q5.1)) (r := (RX11, TX11, 38)) (ci := 9) rfl eu6 (m_X11_throwsIf C.tr eq5) (lw_V q1500 q1502 qs49 q133 q1503) rfl hdX11_throwsIf rfl rfl (Nat.le_of_ble_eq_true rfl) ⟨by decide, by decide⟩ dX11_mix_28 rfl ?_
  refine r_if_eq C dX11_mix_31 (tgt := 36) (by decide) (fun c7 => ?_) (fun c7 => ?_)
  · have h := it_ h c7
    refine r_aload_n C 0 dX11_mix_36 rfl rfl ?_
    obtain ⟨v8, ev8, h⟩ := bs h
    refine r_getR C (c := 9) (r := (RX11, TX11, 38)) rfl 1 (by decide) rfl ev8 q1314 dX11_mix_37 ?_
    refine r_iconst C dX11_mix_40 ?_
    obtain ⟨v9, ev9, h⟩ := bs h
    refine r_iald C ev9 dX11_mix_41 ?_
    refine r_bipush C dX11_mix_42 (by decide) ?_
    refine r_icmp_ne C dX11_mix_44 (tgt := 83) (by decide) (fun c10 => ?_) (fun c10 => ?_)
    · have h := ie_ h c10
      refine r_aload_n C 0 dX11_mix_83 rfl rfl ?_
      obtain ⟨v11, ev11, h⟩ := bs h
      refine r_getR C (c := 9) (r := (RX11, TX11, 38)) rfl 1 (by decide) rfl ev11 q1314 dX11_mix_84 ?_
      refine r_iconst C dX11_mix_87 ?_
      refine r_dup2 C dX11_mix_88 rfl rfl ?_
      obtain ⟨v12, ev12, h⟩ := bs h
      refine r_iald C ev12 dX11_mix_89 ?_
      refine r_iconst C dX11_mix_90 ?_
      refine r_iadd C dX11_mix_91 ?_
      obtain ⟨m13, em13, h⟩ := bs h
      refine r_iast C em13 dX11_mix_92 ?_
      exact w_X11_mix_b93 (fin := fin) C h hK
    · have h := it_ h c10
      refine r_sipush C dX11_mix_47 (by decide) ?_
      refine r_istore_n C [(3, vI 3406), (0, vO a0), (1, vI x1), (2, vI x2)] dX11_mix_50 rfl (by decide) rfl ?_
      refine r_sub [1, 2, 3, 0] rfl ?_
      exact w_X11_mix_l51 (fin := fin) C h hK
  · have h := ie_ h c7
    refine r_iconst C dX11_mix_34 ?_
    cases h
    exact r_zret C (Or.inl rfl) hK dX11_mix_35
noncomputable def s_X11_mix_b22 (a0 : Nat) (x1 : Int) (x2 : Int) (t0 : Nat) (μ : Me) : Option (Int × Me) :=
  s_X11_mix_b27 a0 x1 x2 1 t0 μ
theorem w_X11_mix_b22 {Z : Zt} {fin : Int × Me} {w : (Int × Me)} (C : CX Z yX11_mix cX11_mix (some .boolean) 6 5) {a0 : Nat} {x1 : Int} {x2 : Int} {t0 : Nat} {μ : Me} (h : s_X11_mix_b22 a0 x1 x2 t0 μ = some w) (hK : (fun r : Int × Me => r = fin) w) : WL Z (QN Z (some (vI fin.1)) fin.2) μ 22 [(0, vO a0), (1, vI x1), (2, vI x2)] [vO t0] := by
  unfold s_X11_mix_b22 at h
  refine r_iconst C dX11_mix_22 ?_
  refine r_goto C dX11_mix_23 (tgt := 27) (by decide) ?_
  exact w_X11_mix_b27 (fin := fin) C h hK
noncomputable def s_X11_mix (a0 : Nat) (x1 : Int) (x2 : Int) (μ : Me) : Option (Int × Me) :=
  (pI μ 9 a0 0 0).bind fun m1 =>
  (ck m1 9 a0).bind fun _ =>
  (s_X11_noForm a0 x1 m1).bind fun q2 =>
  (if w32 q2.1 = 0 then
  (ck q2.2 9 a0).bind fun _ =>
  (s_X11_noTable a0 x2 q2.2).bind fun q35 =>
  (if w32 q35.1 = 0 then
  s_X11_mix_b27 a0 x1 x2 0 a0 q35.2
  else
  s_X11_mix_b22 a0 x1 x2 a0 q35.2)
  else
  s_X11_mix_b22 a0 x1 x2 a0 q2.2)
theorem w_X11_mix {Z : Zt} {fin : Int × Me} {w : Int × Me} (C : CX Z yX11_mix cX11_mix (some .boolean) 6 5) {a0 : Nat} {x1 : Int} {x2 : Int} {μ : Me} (h : s_X11_mix a0 x1 x2 μ = some w) (hK : w = fin) : WL Z (QN Z (some (vI fin.1)) fin.2) μ 0 [(0, vO a0), (1, vI x1), (2, vI x2)] [] := by
  unfold s_X11_mix at h
  refine r_aload_n C 0 dX11_mix_0 rfl rfl ?_
  refine r_iconst C dX11_mix_1 ?_
  obtain ⟨m1, em1, h⟩ := bs h
  refine r_putI C (c := 9) (r := (RX11, TX11, 38)) rfl 0 (by decide) rfl ⟨rfl, rfl⟩ rfl em1 q1313 dX11_mix_2 ?_
  refine r_aload_n C 0 dX11_mix_5 rfl rfl ?_
  refine r_aload_n C 0 dX11_mix_6 rfl rfl ?_
  refine r_iload_n C 1 dX11_mix_7 rfl rfl ?_
  obtain ⟨u3, eu3, h⟩ := bs h
  obtain ⟨q2, eq2, h⟩ := bs h
  refine r_callV C (As := [vI x1]) (b := a0) (rest := [vO a0]) (st1 := [vI q2.1, vO a0]) (v := some (vI q2.1)) (r := (RX11, TX11, 38)) (ci := 9) rfl eu3 (m_X11_noForm C.tr eq2) (lw_V q1601 q1603 qs64 q133 q1604) rfl hdX11_noForm rfl rfl (Nat.le_of_ble_eq_true rfl) ⟨by decide, by decide⟩ dX11_mix_8 rfl ?_
  refine r_if_ne C dX11_mix_11 (tgt := 22) (by decide) (fun c4 => ?_) (fun c4 => ?_)
  · have h := ie_ h c4
    exact w_X11_mix_b22 (fin := fin) C h hK
  · have h := it_ h c4
    refine r_aload_n C 0 dX11_mix_14 rfl rfl ?_
    refine r_iload_n C 2 dX11_mix_15 rfl rfl ?_
    obtain ⟨u36, eu36, h⟩ := bs h
    obtain ⟨q35, eq35, h⟩ := bs h
    refine r_callV C (As := [vI x2]) (b := a0) (rest := [vO a0]) (st1 := [vI q35.1, vO a0]) (v := some (vI q35.1)) (r := (RX11, TX11, 38)) (ci := 9) rfl eu36 (m_X11_noTable C.tr eq35) (lw_V q1557 q1559 qs57 q133 q1560) rfl hdX11_noTable rfl rfl (Nat.le_of_ble_eq_true rfl) ⟨by decide, by decide⟩ dX11_mix_16 rfl ?_
    refine r_if_eq C dX11_mix_19 (tgt := 26) (by decide) (fun c37 => ?_) (fun c37 => ?_)
    · have h := it_ h c37
      refine r_iconst C dX11_mix_26 ?_
      exact w_X11_mix_b27 (fin := fin) C h hK
    · have h := ie_ h c37
      exact w_X11_mix_b22 (fin := fin) C h hK
theorem hdX11_mix : zhd yX11_mix 2 := by decide +kernel
theorem m_X11_mix {l : Launch} {D : va_G} {b0 : Nat} (hl : l.stackTraces = false) {a0 : Nat} {x1 : Int} {x2 : Int} {μ : Me} {w : Int × Me} (h : s_X11_mix a0 x1 x2 μ = some w) : MN l D b0 yX11_mix (ws_ yX11_mix cX11_mix 5 (some .boolean)) 6 [vO a0, vI x1, vI x2] μ (some (vI w.1)) w.2 :=
  MN.of hl (by decide +kernel) (Nat.le_of_ble_eq_true rfl) (fun Z C _ _ => w_X11_mix C h rfl)
noncomputable def s_X11_again_b52 (a0 : Nat) (x3 : Int)  (μ : Me) : Option (Int × Me) :=
  (gR μ 9 a0 1).bind fun v12 =>
  (aI μ 101 v12 x3).bind fun v13 =>
  (ck μ 9 a0).bind fun _ =>
  (s_X11_mixesForm a0 v13 μ).bind fun q14 =>
  (gR q14.2 9 a0 1).bind fun v16 =>
  (aI q14.2 101 v16 x3).bind fun v17 =>
  some (v17, q14.2)
theorem w_X11_again_b52 {Z : Zt} {fin : Int × Me} {w : (Int × Me)} (C : CX Z yX11_again cX11_again (some .int) 6 4) {a0 : Nat} {x3 : Int}  {μ : Me} (h : s_X11_again_b52 a0 x3 μ = some w) (hK : (fun r : Int × Me => r = fin) w) : WL Z (QN Z (some (vI fin.1)) fin.2) μ 52 [(0, vO a0), (3, vI x3)] [] := by
  unfold s_X11_again_b52 at h
  refine r_aload_n C 0 dX11_again_52 rfl rfl ?_
  refine r_aload_n C 0 dX11_again_53 rfl rfl ?_
  obtain ⟨v12, ev12, h⟩ := bs h
  refine r_getR C (c := 9) (r := (RX11, TX11, 38)) rfl 1 (by decide) rfl ev12 q1314 dX11_again_54 ?_
  refine r_iload_n C 1 dX11_again_57 rfl rfl ?_
  obtain ⟨v13, ev13, h⟩ := bs h
  refine r_iald C ev13 dX11_again_58 ?_
  obtain ⟨u15, eu15, h⟩ := bs h
  obtain ⟨q14, eq14, h⟩ := bs h
  refine r_callV C (As := [vI v13]) (b := a0) (rest := []) (st1 := [vI q14.1]) (v := some (vI q14.1)) (r := (RX11, TX11, 38)) (ci := 9) rfl eu15 (m_X11_mixesForm C.tr eq14) (lw_V q1637 q1639 qs71 q133 q1640) rfl hdX11_mixesForm rfl rfl (Nat.le_of_ble_eq_true rfl) ⟨by decide, by decide⟩ dX11_again_59 rfl ?_
  refine r_pop C dX11_again_62 rfl ?_
  refine r_aload_n C 0 dX11_again_63 rfl rfl ?_
  obtain ⟨v16, ev16, h⟩ := bs h
  refine r_getR C (c := 9) (r := (RX11, TX11, 38)) rfl 1 (by decide) rfl ev16 q1314 dX11_again_64 ?_
  refine r_iload_n C 1 dX11_again_67 rfl rfl ?_
  obtain ⟨v17, ev17, h⟩ := bs h
  refine r_iald C ev17 dX11_again_68 ?_
  cases h
  exact r_iret C hK dX11_again_69
noncomputable def s_X11_again (a0 : Nat) (x1 : Int) (x2 : Int) (μ : Me) : Option (Int × Me) :=
  (gR μ 9 a0 1).bind fun v1 =>
  (aI μ 101 v1 ((3406 + (5 * x1)) + 1)).bind fun v2 =>
  (gR μ 9 a0 1).bind fun v3 =>
  (aI μ 101 v3 ((3406 + (5 * x1)) + 2)).bind fun v4 =>
  (gR μ 9 a0 1).bind fun v5 =>
  (aI μ 101 v5 ((3406 + (5 * x1)) + 3)).bind fun v6 =>
  (gR μ 9 a0 1).bind fun v7 =>
  (aI μ 101 v7 ((3406 + (5 * x1)) + 4)).bind fun v8 =>
  (ck μ 9 a0).bind fun _ =>
  (s_X11_takesTable a0 v2 v4 v6 v8 μ).bind fun q9 =>
  (if w32 x2 = 0 then
  s_X11_again_b52 a0 (3406 + (5 * x1)) q9
  else
  (ck q9 9 a0).bind fun _ =>
  (s_X11_turnsBack a0  q9).bind fun q18 =>
  s_X11_again_b52 a0 (3406 + (5 * x1)) q18)
theorem w_X11_again {Z : Zt} {fin : Int × Me} {w : Int × Me} (C : CX Z yX11_again cX11_again (some .int) 6 4) {a0 : Nat} {x1 : Int} {x2 : Int} {μ : Me} (h : s_X11_again a0 x1 x2 μ = some w) (hK : w = fin) : WL Z (QN Z (some (vI fin.1)) fin.2) μ 0 [(0, vO a0), (1, vI x1), (2, vI x2)] [] := by
  unfold s_X11_again at h
  refine r_sipush C dX11_again_0 (by decide) ?_
  refine r_iconst C dX11_again_3 ?_
  refine r_iload_n C 1 dX11_again_4 rfl rfl ?_
  refine r_imul C dX11_again_5 ?_
  refine r_iadd C dX11_again_6 ?_
  refine r_istore_n C [(3, vI (3406 + (5 * x1))), (0, vO a0), (1, vI x1), (2, vI x2)] dX11_again_7 rfl (by decide) rfl ?_
  refine r_aload_n C 1 dX11_again_8 rfl rfl ?_
  refine r_aload_n C 1 dX11_again_9 rfl rfl ?_
  obtain ⟨v1, ev1, h⟩ := bs h
  refine r_getR C (c := 9) (r := (RX11, TX11, 38)) rfl 1 (by decide) rfl ev1 q1314 dX11_again_10 ?_
  refine r_iload_n C 0 dX11_again_13 rfl rfl ?_
  refine r_iconst C dX11_again_14 ?_
  refine r_iadd C dX11_again_15 ?_
  obtain ⟨v2, ev2, h⟩ := bs h
  refine r_iald C ev2 dX11_again_16 ?_
  refine r_aload_n C 1 dX11_again_17 rfl rfl ?_
  obtain ⟨v3, ev3, h⟩ := bs h
  refine r_getR C (c := 9) (r := (RX11, TX11, 38)) rfl 1 (by decide) rfl ev3 q1314 dX11_again_18 ?_
  refine r_iload_n C 0 dX11_again_21 rfl rfl ?_
  refine r_iconst C dX11_again_22 ?_
  refine r_iadd C dX11_again_23 ?_
  obtain ⟨v4, ev4, h⟩ := bs h
  refine r_iald C ev4 dX11_again_24 ?_
  refine r_aload_n C 1 dX11_again_25 rfl rfl ?_
  obtain ⟨v5, ev5, h⟩ := bs h
  refine r_getR C (c := 9) (r := (RX11, TX11, 38)) rfl 1 (by decide) rfl ev5 q1314 dX11_again_26 ?_
  refine r_iload_n C 0 dX11_again_29 rfl rfl ?_
  refine r_iconst C dX11_again_30 ?_
  refine r_iadd C dX11_again_31 ?_
  obtain ⟨v6, ev6, h⟩ := bs h
  refine r_iald C ev6 dX11_again_32 ?_
  refine r_aload_n C 1 dX11_again_33 rfl rfl ?_
  obtain ⟨v7, ev7, h⟩ := bs h
  refine r_getR C (c := 9) (r := (RX11, TX11, 38)) rfl 1 (by decide) rfl ev7 q1314 dX11_again_34 ?_
  refine r_iload_n C 0 dX11_again_37 rfl rfl ?_
  refine r_iconst C dX11_again_38 ?_
  refine r_iadd C dX11_again_39 ?_
  obtain ⟨v8, ev8, h⟩ := bs h
  refine r_iald C ev8 dX11_again_40 ?_
  obtain ⟨u10, eu10, h⟩ := bs h
  obtain ⟨q9, eq9, h⟩ := bs h
  refine r_callV C (As := [vI v2, vI v4, vI v6, vI v8]) (b := a0) (rest := []) (st1 := []) (v := none) (r := (RX11, TX11, 38)) (ci := 9) rfl eu10 (m_X11_takesTable C.tr eq9) (lw_V q1533 q1535 qs52 q133 q1536) rfl hdX11_takesTable rfl rfl (Nat.le_of_ble_eq_true rfl) ⟨by decide, by decide⟩ dX11_again_41 rfl ?_
  refine r_iload_n C 3 dX11_again_44 rfl rfl ?_
  refine r_if_eq C dX11_again_45 (tgt := 52) (by decide) (fun c11 => ?_) (fun c11 => ?_)
  · have h := it_ h c11
    refine r_sub [1, 0] rfl ?_
    exact w_X11_again_b52 (fin := fin) C h hK
  · have h := ie_ h c11
    refine r_aload_n C 1 dX11_again_48 rfl rfl ?_
    obtain ⟨u19, eu19, h⟩ := bs h
    obtain ⟨q18, eq18, h⟩ := bs h
    refine r_callV C (As := []) (b := a0) (rest := []) (st1 := []) (v := none) (r := (RX11, TX11, 38)) (ci := 9) rfl eu19 (m_X11_turnsBack C.tr eq18) (lw_V q1577 q1579 qs61 q133 q1580) rfl hdX11_turnsBack rfl rfl (Nat.le_of_ble_eq_true rfl) ⟨by decide, by decide⟩ dX11_again_49 rfl ?_
    refine r_sub [1, 0] rfl ?_
    exact w_X11_again_b52 (fin := fin) C h hK
theorem hdX11_again : zhd yX11_again 2 := by decide +kernel
theorem m_X11_again {l : Launch} {D : va_G} {b0 : Nat} (hl : l.stackTraces = false) {a0 : Nat} {x1 : Int} {x2 : Int} {μ : Me} {w : Int × Me} (h : s_X11_again a0 x1 x2 μ = some w) : MN l D b0 yX11_again (ws_ yX11_again cX11_again 4 (some .int)) 6 [vO a0, vI x1, vI x2] μ (some (vI w.1)) w.2 :=
  MN.of hl (by decide +kernel) (Nat.le_of_ble_eq_true rfl) (fun Z C _ _ => w_X11_again C h rfl)
noncomputable def s_X11_undo (a0 : Nat) (μ : Me) : Option (Int × Me) :=
  (pI μ 9 a0 0 0).bind fun m1 =>
  (gR m1 9 a0 1).bind fun v2 =>
  (aI m1 101 v2 4).bind fun v3 =>
  (if w32 v3 = 0 then
  some ((-1), m1)
  else
  (gR m1 9 a0 1).bind fun v5 =>
  (aI m1 101 v5 4).bind fun v6 =>
  (uI m1 v5 4 (v6 - 1)).bind fun m7 =>
  (gR m7 9 a0 1).bind fun v8 =>
  (aI m7 101 v8 5).bind fun v9 =>
  (uI m7 v8 5 (v9 + 1)).bind fun m10 =>
  (gR m10 9 a0 1).bind fun v11 =>
  (aI m10 101 v11 4).bind fun v12 =>
  (ck m10 9 a0).bind fun _ =>
  (s_X11_again a0 v12 1 m10).bind fun q13 =>
  some (q13.1, q13.2))
theorem w_X11_undo {Z : Zt} {fin : Int × Me} {w : Int × Me} (C : CX Z yX11_undo cX11_undo (some .int) 7 1) {a0 : Nat} {μ : Me} (h : s_X11_undo a0 μ = some w) (hK : w = fin) : WL Z (QN Z (some (vI fin.1)) fin.2) μ 0 [(0, vO a0)] [] := by
  unfold s_X11_undo at h
  refine r_aload_n C 0 dX11_undo_0 rfl rfl ?_
  refine r_iconst C dX11_undo_1 ?_
  obtain ⟨m1, em1, h⟩ := bs h
  refine r_putI C (c := 9) (r := (RX11, TX11, 38)) rfl 0 (by decide) rfl ⟨rfl, rfl⟩ rfl em1 q1313 dX11_undo_2 ?_
  refine r_aload_n C 0 dX11_undo_5 rfl rfl ?_
  obtain ⟨v2, ev2, h⟩ := bs h
  refine r_getR C (c := 9) (r := (RX11, TX11, 38)) rfl 1 (by decide) rfl ev2 q1314 dX11_undo_6 ?_
  refine r_iconst C dX11_undo_9 ?_
  obtain ⟨v3, ev3, h⟩ := bs h
  refine r_iald C ev3 dX11_undo_10 ?_
  refine r_if_ne C dX11_undo_11 (tgt := 16) (by decide) (fun c4 => ?_) (fun c4 => ?_)
  · have h := ie_ h c4
    refine r_aload_n C 0 dX11_undo_16 rfl rfl ?_
    obtain ⟨v5, ev5, h⟩ := bs h
    refine r_getR C (c := 9) (r := (RX11, TX11, 38)) rfl 1 (by decide) rfl ev5 q1314 dX11_undo_17 ?_
    refine r_iconst C dX11_undo_20 ?_
    refine r_dup2 C dX11_undo_21 rfl rfl ?_
    obtain ⟨v6, ev6, h⟩ := bs h
    refine r_iald C ev6 dX11_undo_22 ?_
    refine r_iconst C dX11_undo_23 ?_
    refine r_isub C dX11_undo_24 ?_
    obtain ⟨m7, em7, h⟩ := bs h
    refine r_iast C em7 dX11_undo_25 ?_
    refine r_aload_n C 0 dX11_undo_26 rfl rfl ?_
    obtain ⟨v8, ev8, h⟩ := bs h
    refine r_getR C (c := 9) (r := (RX11, TX11, 38)) rfl 1 (by decide) rfl ev8 q1314 dX11_undo_27 ?_
    refine r_iconst C dX11_undo_30 ?_
    refine r_dup2 C dX11_undo_31 rfl rfl ?_
    obtain ⟨v9, ev9, h⟩ := bs h
    refine r_iald C ev9 dX11_undo_32 ?_
    refine r_iconst C dX11_undo_33 ?_
    refine r_iadd C dX11_undo_34 ?_
    obtain ⟨m10, em10, h⟩ := bs h
    refine r_iast C em10 dX11_undo_35 ?_
    refine r_aload_n C 0 dX11_undo_36 rfl rfl ?_
    refine r_aload_n C 0 dX11_undo_37 rfl rfl ?_
    obtain ⟨v11, ev11, h⟩ := bs h
    refine r_getR C (c := 9) (r := (RX11, TX11, 38)) rfl 1 (by decide) rfl ev11 q1314 dX11_undo_38 ?_
    refine r_iconst C dX11_undo_41 ?_
    obtain ⟨v12, ev12, h⟩ := bs h
    refine r_iald C ev12 dX11_undo_42 ?_
    refine r_iconst C dX11_undo_43 ?_
    obtain ⟨u14, eu14, h⟩ := bs h
    obtain ⟨q13, eq13, h⟩ := bs h
    refine r_callV C (As := [vI v12, vI 1]) (b := a0) (rest := []) (st1 := [vI q13.1]) (v := some (vI q13.1)) (r := (RX11, TX11, 38)) (ci := 9) rfl eu14 (m_X11_again C.tr eq13) (lw_V q1661 q1663 qs76 q133 q1664) rfl hdX11_again rfl rfl (Nat.le_of_ble_eq_true rfl) ⟨by decide, by decide⟩ dX11_undo_44 rfl ?_
    cases h
    exact r_iret C hK dX11_undo_47
  · have h := it_ h c4
    refine r_iconst C dX11_undo_14 ?_
    cases h
    exact r_iret C hK dX11_undo_15
theorem hdX11_undo : zhd yX11_undo 0 := by decide +kernel
theorem m_X11_undo {l : Launch} {D : va_G} {b0 : Nat} (hl : l.stackTraces = false) {a0 : Nat} {μ : Me} {w : Int × Me} (h : s_X11_undo a0 μ = some w) : MN l D b0 yX11_undo (ws_ yX11_undo cX11_undo 1 (some .int)) 7 [vO a0] μ (some (vI w.1)) w.2 :=
  MN.of hl (by decide +kernel) (Nat.le_of_ble_eq_true rfl) (fun Z C _ _ => w_X11_undo C h rfl)
noncomputable def s_X11_redo (a0 : Nat) (μ : Me) : Option (Int × Me) :=
  (pI μ 9 a0 0 0).bind fun m1 =>
  (gR m1 9 a0 1).bind fun v2 =>
  (aI m1 101 v2 5).bind fun v3 =>
  (if w32 v3 = 0 then
  some ((-1), m1)
  else
  (gR m1 9 a0 1).bind fun v5 =>
  (aI m1 101 v5 4).bind fun v6 =>
  (uI m1 v5 4 (v6 + 1)).bind fun m7 =>
  (gR m7 9 a0 1).bind fun v8 =>
  (aI m7 101 v8 5).bind fun v9 =>
  (uI m7 v8 5 (v9 - 1)).bind fun m10 =>
  (gR m10 9 a0 1).bind fun v11 =>
  (aI m10 101 v11 4).bind fun v12 =>
  (ck m10 9 a0).bind fun _ =>
  (s_X11_again a0 (v12 - 1) 0 m10).bind fun q13 =>
  some (q13.1, q13.2))
theorem w_X11_redo {Z : Zt} {fin : Int × Me} {w : Int × Me} (C : CX Z yX11_redo cX11_redo (some .int) 7 1) {a0 : Nat} {μ : Me} (h : s_X11_redo a0 μ = some w) (hK : w = fin) : WL Z (QN Z (some (vI fin.1)) fin.2) μ 0 [(0, vO a0)] [] := by
  unfold s_X11_redo at h
  refine r_aload_n C 0 dX11_redo_0 rfl rfl ?_
  refine r_iconst C dX11_redo_1 ?_
  obtain ⟨m1, em1, h⟩ := bs h
  refine r_putI C (c := 9) (r := (RX11, TX11, 38)) rfl 0 (by decide) rfl ⟨rfl, rfl⟩ rfl em1 q1313 dX11_redo_2 ?_
  refine r_aload_n C 0 dX11_redo_5 rfl rfl ?_
  obtain ⟨v2, ev2, h⟩ := bs h
  refine r_getR C (c := 9) (r := (RX11, TX11, 38)) rfl 1 (by decide) rfl ev2 q1314 dX11_redo_6 ?_
  refine r_iconst C dX11_redo_9 ?_
  obtain ⟨v3, ev3, h⟩ := bs h
  refine r_iald C ev3 dX11_redo_10 ?_
  refine r_if_ne C dX11_redo_11 (tgt := 16) (by decide) (fun c4 => ?_) (fun c4 => ?_)
  · have h := ie_ h c4
    refine r_aload_n C 0 dX11_redo_16 rfl rfl ?_
    obtain ⟨v5, ev5, h⟩ := bs h
    refine r_getR C (c := 9) (r := (RX11, TX11, 38)) rfl 1 (by decide) rfl ev5 q1314 dX11_redo_17 ?_
    refine r_iconst C dX11_redo_20 ?_
    refine r_dup2 C dX11_redo_21 rfl rfl ?_
    obtain ⟨v6, ev6, h⟩ := bs h
    refine r_iald C ev6 dX11_redo_22 ?_
    refine r_iconst C dX11_redo_23 ?_
    refine r_iadd C dX11_redo_24 ?_
    obtain ⟨m7, em7, h⟩ := bs h
    refine r_iast C em7 dX11_redo_25 ?_
    refine r_aload_n C 0 dX11_redo_26 rfl rfl ?_
    obtain ⟨v8, ev8, h⟩ := bs h
    refine r_getR C (c := 9) (r := (RX11, TX11, 38)) rfl 1 (by decide) rfl ev8 q1314 dX11_redo_27 ?_
    refine r_iconst C dX11_redo_30 ?_
    refine r_dup2 C dX11_redo_31 rfl rfl ?_
    obtain ⟨v9, ev9, h⟩ := bs h
    refine r_iald C ev9 dX11_redo_32 ?_
    refine r_iconst C dX11_redo_33 ?_
    refine r_isub C dX11_redo_34 ?_
    obtain ⟨m10, em10, h⟩ := bs h
    refine r_iast C em10 dX11_redo_35 ?_
    refine r_aload_n C 0 dX11_redo_36 rfl rfl ?_
    refine r_aload_n C 0 dX11_redo_37 rfl rfl ?_
    obtain ⟨v11, ev11, h⟩ := bs h
    refine r_getR C (c := 9) (r := (RX11, TX11, 38)) rfl 1 (by decide) rfl ev11 q1314 dX11_redo_38 ?_
    refine r_iconst C dX11_redo_41 ?_
    obtain ⟨v12, ev12, h⟩ := bs h
    refine r_iald C ev12 dX11_redo_42 ?_
    refine r_iconst C dX11_redo_43 ?_
    refine r_isub C dX11_redo_44 ?_
    refine r_iconst C dX11_redo_45 ?_
    obtain ⟨u14, eu14, h⟩ := bs h
    obtain ⟨q13, eq13, h⟩ := bs h
    refine r_callV C (As := [vI (v12 - 1), vI 0]) (b := a0) (rest := []) (st1 := [vI q13.1]) (v := some (vI q13.1)) (r := (RX11, TX11, 38)) (ci := 9) rfl eu14 (m_X11_again C.tr eq13) (lw_V q1661 q1663 qs76 q133 q1664) rfl hdX11_again rfl rfl (Nat.le_of_ble_eq_true rfl) ⟨by decide, by decide⟩ dX11_redo_46 rfl ?_
    cases h
    exact r_iret C hK dX11_redo_49
  · have h := it_ h c4
    refine r_iconst C dX11_redo_14 ?_
    cases h
    exact r_iret C hK dX11_redo_15
theorem hdX11_redo : zhd yX11_redo 0 := by decide +kernel
theorem m_X11_redo {l : Launch} {D : va_G} {b0 : Nat} (hl : l.stackTraces = false) {a0 : Nat} {μ : Me} {w : Int × Me} (h : s_X11_redo a0 μ = some w) : MN l D b0 yX11_redo (ws_ yX11_redo cX11_redo 1 (some .int)) 7 [vO a0] μ (some (vI w.1)) w.2 :=
  MN.of hl (by decide +kernel) (Nat.le_of_ble_eq_true rfl) (fun Z C _ _ => w_X11_redo C h rfl)
noncomputable def s_X11_noSigns (a0 : Nat) (x1 : Int) (μ : Me) : Option (Int × Me) :=
  (gR μ 9 a0 1).bind fun v1 =>
  (aI μ 101 v1 3).bind fun v2 =>
  (s_X11_in x1 0 (v2 - 1) μ).bind fun q3 =>
  (if w32 q3.1 = 0 then
  some (1, q3.2)
  else
  some (0, q3.2))
theorem w_X11_noSigns {Z : Zt} {fin : Int × Me} {w : Int × Me} (C : CX Z yX11_noSigns cX11_noSigns (some .boolean) 2 2) {a0 : Nat} {x1 : Int} {μ : Me} (h : s_X11_noSigns a0 x1 μ = some w) (hK : w = fin) : WL Z (QN Z (some (vI fin.1)) fin.2) μ 0 [(0, vO a0), (1, vI x1)] [] := by
  unfold s_X11_noSigns at h
  refine r_iload_n C 1 dX11_noSigns_0 rfl rfl ?_
  refine r_iconst C dX11_noSigns_1 ?_
  refine r_aload_n C 0 dX11_noSigns_2 rfl rfl ?_
  obtain ⟨v1, ev1, h⟩ := bs h
  refine r_getR C (c := 9) (r := (RX11, TX11, 38)) rfl 1 (by decide) rfl ev1 q1314 dX11_noSigns_3 ?_
  refine r_iconst C dX11_noSigns_6 ?_
  obtain ⟨v2, ev2, h⟩ := bs h
  refine r_iald C ev2 dX11_noSigns_7 ?_
  refine r_iconst C dX11_noSigns_8 ?_
  refine r_isub C dX11_noSigns_9 ?_
  obtain ⟨q3, eq3, h⟩ := bs h
  refine r_callS C (As := [vI x1, vI 0, vI (v2 - 1)]) (rest := []) (st1 := [vI q3.1]) (v := some (vI q3.1)) (m_X11_in C.tr eq3) (lw_S q1512 q1513 q133 q1514) hdX11_in rfl rfl (Nat.le_of_ble_eq_true rfl) ⟨by decide, by decide⟩ dX11_noSigns_10 rfl ?_
  refine r_if_ne C dX11_noSigns_13 (tgt := 20) (by decide) (fun c4 => ?_) (fun c4 => ?_)
  · have h := ie_ h c4
    refine r_iconst C dX11_noSigns_20 ?_
    cases h
    exact r_zret C (Or.inl rfl) hK dX11_noSigns_21
  · have h := it_ h c4
    refine r_iconst C dX11_noSigns_16 ?_
    refine r_goto C dX11_noSigns_17 (tgt := 21) (by decide) ?_
    cases h
    exact r_zret C (Or.inr rfl) hK dX11_noSigns_21
theorem hdX11_noSigns : zhd yX11_noSigns 1 := by decide +kernel
theorem m_X11_noSigns {l : Launch} {D : va_G} {b0 : Nat} (hl : l.stackTraces = false) {a0 : Nat} {x1 : Int} {μ : Me} {w : Int × Me} (h : s_X11_noSigns a0 x1 μ = some w) : MN l D b0 yX11_noSigns (ws_ yX11_noSigns cX11_noSigns 2 (some .boolean)) 2 [vO a0, vI x1] μ (some (vI w.1)) w.2 :=
  MN.of hl (by decide +kernel) (Nat.le_of_ble_eq_true rfl) (fun Z C _ _ => w_X11_noSigns C h rfl)
noncomputable def s_X11_stepsOf (a0 : Nat) (x1 : Int) (μ : Me) : Option (Int × Me) :=
  (gR μ 9 a0 1).bind fun v1 =>
  (aI μ 101 v1 (198 + (401 * x1))).bind fun v2 =>
  some (v2, μ)
theorem w_X11_stepsOf {Z : Zt} {fin : Int × Me} {w : Int × Me} (C : CX Z yX11_stepsOf cX11_stepsOf (some .int) 1 2) {a0 : Nat} {x1 : Int} {μ : Me} (h : s_X11_stepsOf a0 x1 μ = some w) (hK : w = fin) : WL Z (QN Z (some (vI fin.1)) fin.2) μ 0 [(0, vO a0), (1, vI x1)] [] := by
  unfold s_X11_stepsOf at h
  refine r_aload_n C 0 dX11_stepsOf_0 rfl rfl ?_
  obtain ⟨v1, ev1, h⟩ := bs h
  refine r_getR C (c := 9) (r := (RX11, TX11, 38)) rfl 1 (by decide) rfl ev1 q1314 dX11_stepsOf_1 ?_
  refine r_sipush C dX11_stepsOf_4 (by decide) ?_
  refine r_sipush C dX11_stepsOf_7 (by decide) ?_
  refine r_iload_n C 1 dX11_stepsOf_10 rfl rfl ?_
  refine r_imul C dX11_stepsOf_11 ?_
  refine r_iadd C dX11_stepsOf_12 ?_
  obtain ⟨v2, ev2, h⟩ := bs h
  refine r_iald C ev2 dX11_stepsOf_13 ?_
  cases h
  exact r_iret C hK dX11_stepsOf_14
theorem hdX11_stepsOf : zhd yX11_stepsOf 1 := by decide +kernel
theorem m_X11_stepsOf {l : Launch} {D : va_G} {b0 : Nat} (hl : l.stackTraces = false) {a0 : Nat} {x1 : Int} {μ : Me} {w : Int × Me} (h : s_X11_stepsOf a0 x1 μ = some w) : MN l D b0 yX11_stepsOf (ws_ yX11_stepsOf cX11_stepsOf 2 (some .int)) 1 [vO a0, vI x1] μ (some (vI w.1)) w.2 :=
  MN.of hl (by decide +kernel) (Nat.le_of_ble_eq_true rfl) (fun Z C _ _ => w_X11_stepsOf C h rfl)
noncomputable def s_X11_stepOf (a0 : Nat) (x1 : Int) (x2 : Int) (μ : Me) : Option (Int × Me) :=
  (gR μ 9 a0 1).bind fun v1 =>
  (aI μ 101 v1 (((198 + (401 * x1)) + 1) + (2 * x2))).bind fun v2 =>
  some (v2, μ)
theorem w_X11_stepOf {Z : Zt} {fin : Int × Me} {w : Int × Me} (C : CX Z yX11_stepOf cX11_stepOf (some .int) 1 3) {a0 : Nat} {x1 : Int} {x2 : Int} {μ : Me} (h : s_X11_stepOf a0 x1 x2 μ = some w) (hK : w = fin) : WL Z (QN Z (some (vI fin.1)) fin.2) μ 0 [(0, vO a0), (1, vI x1), (2, vI x2)] [] := by
  unfold s_X11_stepOf at h
  refine r_aload_n C 0 dX11_stepOf_0 rfl rfl ?_
  obtain ⟨v1, ev1, h⟩ := bs h
  refine r_getR C (c := 9) (r := (RX11, TX11, 38)) rfl 1 (by decide) rfl ev1 q1314 dX11_stepOf_1 ?_
  refine r_sipush C dX11_stepOf_4 (by decide) ?_
  refine r_sipush C dX11_stepOf_7 (by decide) ?_
  refine r_iload_n C 1 dX11_stepOf_10 rfl rfl ?_
  refine r_imul C dX11_stepOf_11 ?_
  refine r_iadd C dX11_stepOf_12 ?_
  refine r_iconst C dX11_stepOf_13 ?_
  refine r_iadd C dX11_stepOf_14 ?_
  refine r_iconst C dX11_stepOf_15 ?_
  refine r_iload_n C 2 dX11_stepOf_16 rfl rfl ?_
  refine r_imul C dX11_stepOf_17 ?_
  refine r_iadd C dX11_stepOf_18 ?_
  obtain ⟨v2, ev2, h⟩ := bs h
  refine r_iald C ev2 dX11_stepOf_19 ?_
  cases h
  exact r_iret C hK dX11_stepOf_20
theorem hdX11_stepOf : zhd yX11_stepOf 2 := by decide +kernel
theorem m_X11_stepOf {l : Launch} {D : va_G} {b0 : Nat} (hl : l.stackTraces = false) {a0 : Nat} {x1 : Int} {x2 : Int} {μ : Me} {w : Int × Me} (h : s_X11_stepOf a0 x1 x2 μ = some w) : MN l D b0 yX11_stepOf (ws_ yX11_stepOf cX11_stepOf 3 (some .int)) 1 [vO a0, vI x1, vI x2] μ (some (vI w.1)) w.2 :=
  MN.of hl (by decide +kernel) (Nat.le_of_ble_eq_true rfl) (fun Z C _ _ => w_X11_stepOf C h rfl)
noncomputable def s_X11_copies_l14_st (a0 : Nat) (x1 : Int) (x2 : Int) (x3 : Int) (μ : Me) : Option ((Int × Me) ⊕ (Me)) :=
  (gR μ 9 a0 4).bind fun v5 =>
  (aI μ 101 v5 x1).bind fun v6 =>
  (if w32 v6 < w32 x3 then
  some (.inr μ)
  else
  (ck μ 9 a0).bind fun _ =>
  (s_X11_of a0 x1 x3 μ).bind fun q8 =>
  (ck q8.2 9 a0).bind fun _ =>
  (s_X11_put a0 x2 x3 q8.1 q8.2).bind fun q10 =>
  some (.inl ((x3 + 1), q10)))
theorem w_X11_copies_l14_st {Z : Zt} {fin : Me} {w : ((Int × Me) ⊕ (Me))} (C : CX Z yX11_copies cX11_copies none 2 4) {a0 : Nat} {x1 : Int} {x2 : Int} {x3 : Int} {μ : Me} (h : s_X11_copies_l14_st a0 x1 x2 x3 μ = some w) (hK : (Sum.elim (fun s : Int × Me => WL Z (QN Z none fin) s.2 14 [(0, vO a0), (1, vI x1), (2, vI x2), (3, vI s.1)] []) (fun r : Me => r = fin)) w) : WL Z (QN Z none fin) μ 14 [(0, vO a0), (1, vI x1), (2, vI x2), (3, vI x3)] [] := by
  unfold s_X11_copies_l14_st at h
  refine r_iload_n C 3 dX11_copies_14 rfl rfl ?_
  refine r_aload_n C 0 dX11_copies_15 rfl rfl ?_
  obtain ⟨v5, ev5, h⟩ := bs h
  refine r_getR C (c := 9) (r := (RX11, TX11, 38)) rfl 4 (by decide) rfl ev5 q1317 dX11_copies_16 ?_
  refine r_iload_n C 1 dX11_copies_19 rfl rfl ?_
  obtain ⟨v6, ev6, h⟩ := bs h
  refine r_iald C ev6 dX11_copies_20 ?_
  refine r_icmp_gt C dX11_copies_21 (tgt := 42) (by decide) (fun c7 => ?_) (fun c7 => ?_)
  · have h := it_ h c7
    cases h
    exact r_vret C hK dX11_copies_42
  · have h := ie_ h c7
    refine r_aload_n C 0 dX11_copies_24 rfl rfl ?_
    refine r_iload_n C 2 dX11_copies_25 rfl rfl ?_
    refine r_iload_n C 3 dX11_copies_26 rfl rfl ?_
    refine r_aload_n C 0 dX11_copies_27 rfl rfl ?_
    refine r_iload_n C 1 dX11_copies_28 rfl rfl ?_
    refine r_iload_n C 3 dX11_copies_29 rfl rfl ?_
    obtain ⟨u9, eu9, h⟩ := bs h
    obtain ⟨q8, eq8, h⟩ := bs h
    refine r_callV C (As := [vI x1, vI x3]) (b := a0) (rest := [vI x3, vI x2, vO a0]) (st1 := [vI q8.1, vI x3, vI x2, vO a0]) (v := some (vI q8.1)) (r := (RX11, TX11, 38)) (ci := 9) rfl eu9 (m_X11_of C.tr eq8) (lw_V q1629 q1631 qs70 q133 q1632) rfl hdX11_of rfl rfl (Nat.le_of_ble_eq_true rfl) ⟨by decide, by decide⟩ dX11_copies_30 rfl ?_
    obtain ⟨u11, eu11, h⟩ := bs h
    obtain ⟨q10, eq10, h⟩ := bs h
    refine r_callV C (As := [vI x2, vI x3, vI q8.1]) (b := a0) (rest := []) (st1 := []) (v := none) (r := (RX11, TX11, 38)) (ci := 9) rfl eu11 (m_X11_put C.tr eq10) (lw_V q1621 q1623 qs68 q133 q1624) rfl hdX11_put rfl rfl (Nat.le_of_ble_eq_true rfl) ⟨by decide, by decide⟩ dX11_copies_33 rfl ?_
    refine r_iinc C 3 [(3, vI (x3 + 1)), (0, vO a0), (1, vI x1), (2, vI x2)] dX11_copies_36 rfl (by decide) rfl ?_
    refine r_goto C dX11_copies_39 (tgt := 14) (by decide) ?_
    cases h
    refine r_sub [1, 2, 3, 0] rfl ?_
    exact hK
noncomputable def s_X11_copies_l14 (a0 : Nat) (x1 : Int) (x2 : Int) (x3 : Int) (μ : Me) : Option (Me) :=
  whileO (fun s : Int × Me => s_X11_copies_l14_st a0 x1 x2 s.1 s.2) (x3, μ)
theorem e_X11_copies_l14 (a0 : Nat) (x1 : Int) (x2 : Int) (x3 : Int) (μ : Me) : s_X11_copies_l14 a0 x1 x2 x3 μ = (s_X11_copies_l14_st a0 x1 x2 x3 μ).bind fun x => x.elim (fun s : Int × Me => s_X11_copies_l14 a0 x1 x2 s.1 s.2) some := whileO_eq _ _
theorem w_X11_copies_l14 {Z : Zt} {fin : Me} {w : (Me)} (C : CX Z yX11_copies cX11_copies none 2 4) {a0 : Nat} {x1 : Int} {x2 : Int} {x3 : Int} {μ : Me} (h : s_X11_copies_l14 a0 x1 x2 x3 μ = some w) (hK : (fun r : Me => r = fin) w) : WL Z (QN Z none fin) μ 14 [(0, vO a0), (1, vI x1), (2, vI x2), (3, vI x3)] [] := by
  refine whileO_walk (w := w) (fun s : Int × Me => WL Z (QN Z none fin) s.2 14 [(0, vO a0), (1, vI x1), (2, vI x2), (3, vI s.1)] []) (fun s v h2 hi hr => ?_) (x3, μ) h
  refine w_X11_copies_l14_st (fin := fin) C h2 ?_
  cases v with
  | inl s2 => exact hi s2 rfl
  | inr r => have e := hr r rfl; subst e; exact hK
noncomputable def s_X11_copies (a0 : Nat) (x1 : Int) (x2 : Int) (μ : Me) : Option (Me) :=
  (gR μ 9 a0 4).bind fun v1 =>
  (gR μ 9 a0 4).bind fun v2 =>
  (aI μ 101 v2 x1).bind fun v3 =>
  (uI μ v1 x2 v3).bind fun m4 =>
  s_X11_copies_l14 a0 x1 x2 0 m4
theorem w_X11_copies {Z : Zt} {fin : Me} {w : Me} (C : CX Z yX11_copies cX11_copies none 2 4) {a0 : Nat} {x1 : Int} {x2 : Int} {μ : Me} (h : s_X11_copies a0 x1 x2 μ = some w) (hK : w = fin) : WL Z (QN Z none fin) μ 0 [(0, vO a0), (1, vI x1), (2, vI x2)] [] := by
  unfold s_X11_copies at h
  refine r_aload_n C 0 dX11_copies_0 rfl rfl ?_
  obtain ⟨v1, ev1, h⟩ := bs h
  refine r_getR C (c := 9) (r := (RX11, TX11, 38)) rfl 4 (by decide) rfl ev1 q1317 dX11_copies_1 ?_
  refine r_iload_n C 2 dX11_copies_4 rfl rfl ?_
  refine r_aload_n C 0 dX11_copies_5 rfl rfl ?_
  obtain ⟨v2, ev2, h⟩ := bs h
  refine r_getR C (c := 9) (r := (RX11, TX11, 38)) rfl 4 (by decide) rfl ev2 q1317 dX11_copies_6 ?_
  refine r_iload_n C 1 dX11_copies_9 rfl rfl ?_
  obtain ⟨v3, ev3, h⟩ := bs h
  refine r_iald C ev3 dX11_copies_10 ?_
  obtain ⟨m4, em4, h⟩ := bs h
  refine r_iast C em4 dX11_copies_11 ?_
  refine r_iconst C dX11_copies_12 ?_
  refine r_istore_n C [(3, vI 0), (0, vO a0), (1, vI x1), (2, vI x2)] dX11_copies_13 rfl (by decide) rfl ?_
  refine r_sub [1, 2, 3, 0] rfl ?_
  exact w_X11_copies_l14 (fin := fin) C h hK
theorem hdX11_copies : zhd yX11_copies 2 := by decide +kernel
theorem m_X11_copies {l : Launch} {D : va_G} {b0 : Nat} (hl : l.stackTraces = false) {a0 : Nat} {x1 : Int} {x2 : Int} {μ : Me} {w : Me} (h : s_X11_copies a0 x1 x2 μ = some w) : MN l D b0 yX11_copies (ws_ yX11_copies cX11_copies 4 none) 2 [vO a0, vI x1, vI x2] μ none w :=
  MN.of hl (by decide +kernel) (Nat.le_of_ble_eq_true rfl) (fun Z C _ _ => w_X11_copies C h rfl)
noncomputable def s_X11_toldBy (a0 : Nat) (x1 : Int) (x2 : Int) (μ : Me) : Option (Int × Me) :=
  (gR μ 9 a0 1).bind fun v1 =>
  (aI μ 101 v1 (((198 + (401 * x1)) + 2) + (2 * x2))).bind fun v2 =>
  some (v2, μ)
theorem w_X11_toldBy {Z : Zt} {fin : Int × Me} {w : Int × Me} (C : CX Z yX11_toldBy cX11_toldBy (some .int) 1 3) {a0 : Nat} {x1 : Int} {x2 : Int} {μ : Me} (h : s_X11_toldBy a0 x1 x2 μ = some w) (hK : w = fin) : WL Z (QN Z (some (vI fin.1)) fin.2) μ 0 [(0, vO a0), (1, vI x1), (2, vI x2)] [] := by
  unfold s_X11_toldBy at h
  refine r_aload_n C 0 dX11_toldBy_0 rfl rfl ?_
  obtain ⟨v1, ev1, h⟩ := bs h
  refine r_getR C (c := 9) (r := (RX11, TX11, 38)) rfl 1 (by decide) rfl ev1 q1314 dX11_toldBy_1 ?_
  refine r_sipush C dX11_toldBy_4 (by decide) ?_
  refine r_sipush C dX11_toldBy_7 (by decide) ?_
  refine r_iload_n C 1 dX11_toldBy_10 rfl rfl ?_
  refine r_imul C dX11_toldBy_11 ?_
  refine r_iadd C dX11_toldBy_12 ?_
  refine r_iconst C dX11_toldBy_13 ?_
  refine r_iadd C dX11_toldBy_14 ?_
  refine r_iconst C dX11_toldBy_15 ?_
  refine r_iload_n C 2 dX11_toldBy_16 rfl rfl ?_
  refine r_imul C dX11_toldBy_17 ?_
  refine r_iadd C dX11_toldBy_18 ?_
  obtain ⟨v2, ev2, h⟩ := bs h
  refine r_iald C ev2 dX11_toldBy_19 ?_
  cases h
  exact r_iret C hK dX11_toldBy_20
theorem hdX11_toldBy : zhd yX11_toldBy 2 := by decide +kernel
theorem m_X11_toldBy {l : Launch} {D : va_G} {b0 : Nat} (hl : l.stackTraces = false) {a0 : Nat} {x1 : Int} {x2 : Int} {μ : Me} {w : Int × Me} (h : s_X11_toldBy a0 x1 x2 μ = some w) : MN l D b0 yX11_toldBy (ws_ yX11_toldBy cX11_toldBy 3 (some .int)) 1 [vO a0, vI x1, vI x2] μ (some (vI w.1)) w.2 :=
  MN.of hl (by decide +kernel) (Nat.le_of_ble_eq_true rfl) (fun Z C _ _ => w_X11_toldBy C h rfl)
noncomputable def s_X11_multiplies_l35_st (a0 : Nat) (x1 : Int) (x2 : Int) (x3 : Int) (x4 : Int) (x5 : Int) (μ : Me) : Option ((Int × Me) ⊕ ((Int × Me) ⊕ (Me))) :=
  (gR μ 9 a0 4).bind fun v10 =>
  (aI μ 101 v10 x2).bind fun v11 =>
  (if w32 v11 < w32 x5 then
  some (.inr (.inl ((x4 + 1), μ)))
  else
  (ck μ 9 a0).bind fun _ =>
  (s_X11_of a0 x3 (x4 + x5) μ).bind fun q13 =>
  (ck q13.2 9 a0).bind fun _ =>
  (s_X11_of a0 x1 x4 q13.2).bind fun q15 =>
  (ck q15.2 9 a0).bind fun _ =>
  (s_X11_of a0 x2 x5 q15.2).bind fun q17 =>
  (ck q17.2 9 a0).bind fun _ =>
  (s_X11_times a0 q15.1 q17.1 q17.2).bind fun q19 =>
  (ck q19.2 9 a0).bind fun _ =>
  (s_X11_plus a0 q13.1 q19.1 q19.2).bind fun q21 =>
  (ck q21.2 9 a0).bind fun _ =>
  (s_X11_put a0 x3 (x4 + x5) q21.1 q21.2).bind fun q23 =>
  some (.inl ((x5 + 1), q23)))
theorem w_X11_multiplies_l35_st {Z : Zt} {fin : Me} {w : ((Int × Me) ⊕ ((Int × Me) ⊕ (Me)))} (C : CX Z yX11_multiplies cX11_multiplies none 3 6) {a0 : Nat} {x1 : Int} {x2 : Int} {x3 : Int} {x4 : Int} {x5 : Int} {μ : Me} (h : s_X11_multiplies_l35_st a0 x1 x2 x3 x4 x5 μ = some w) (hK : (Sum.elim (fun s : Int × Me => WL Z (QN Z none fin) s.2 35 [(0, vO a0), (1, vI x1), (2, vI x2), (3, vI x3), (4, vI x4), (5, vI s.1)] []) (Sum.elim (fun s : Int × Me => WL Z (QN Z none fin) s.2 21 [(0, vO a0), (1, vI x1), (2, vI x2), (3, vI x3), (4, vI s.1)] []) (fun r : Me => r = fin))) w) : WL Z (QN Z none fin) μ 35 [(0, vO a0), (1, vI x1), (2, vI x2), (3, vI x3), (4, vI x4), (5, vI x5)] [] := by
  unfold s_X11_multiplies_l35_st at h
  refine r_iload C 5 dX11_multiplies_35 rfl ?_
  refine r_aload_n C 0 dX11_multiplies_37 rfl rfl ?_
  obtain ⟨v10, ev10, h⟩ := bs h
  refine r_getR C (c := 9) (r := (RX11, TX11, 38)) rfl 4 (by decide) rfl ev10 q1317 dX11_multiplies_38 ?_
  refine r_iload_n C 2 dX11_multiplies_41 rfl rfl ?_
  obtain ⟨v11, ev11, h⟩ := bs h
  refine r_iald C ev11 dX11_multiplies_42 ?_
  refine r_icmp_gt C dX11_multiplies_43 (tgt := 94) (by decide) (fun c12 => ?_) (fun c12 => ?_)
  · have h := it_ h c12
    refine r_iinc C 4 [(4, vI (x4 + 1)), (0, vO a0), (1, vI x1), (2, vI x2), (3, vI x3), (5, vI x5)] dX11_multiplies_94 rfl (by decide) rfl ?_
    refine r_goto C dX11_multiplies_97 (tgt := 21) (by decide) ?_
    cases h
    refine r_sub [1, 2, 3, 4, 0] rfl ?_
    exact hK
  · have h := ie_ h c12
    refine r_aload_n C 0 dX11_multiplies_46 rfl rfl ?_
    refine r_iload_n C 3 dX11_multiplies_47 rfl rfl ?_
    refine r_iload C 4 dX11_multiplies_48 rfl ?_
    refine r_iload C 5 dX11_multiplies_50 rfl ?_
    refine r_iadd C dX11_multiplies_52 ?_
    refine r_aload_n C 0 dX11_multiplies_53 rfl rfl ?_
    refine r_aload_n C 0 dX11_multiplies_54 rfl rfl ?_
    refine r_iload_n C 3 dX11_multiplies_55 rfl rfl ?_
    refine r_iload C 4 dX11_multiplies_56 rfl ?_
    refine r_iload C 5 dX11_multiplies_58 rfl ?_
    refine r_iadd C dX11_multiplies_60 ?_
    obtain ⟨u14, eu14, h⟩ := bs h
    obtain ⟨q13, eq13, h⟩ := bs h
    refine r_callV C (As := [vI x3, vI (x4 + x5)]) (b := a0) (rest := [vO a0, vI (x4 + x5), vI x3, vO a0]) (st1 := [vI q13.1, vO a0, vI (x4 + x5), vI x3, vO a0]) (v := some (vI q13.1)) (r := (RX11, TX11, 38)) (ci := 9) rfl eu14 (m_X11_of C.tr eq13) (lw_V q1629 q1631 qs70 q133 q1632) rfl hdX11_of rfl rfl (Nat.le_of_ble_eq_true rfl) ⟨by decide, by decide⟩ dX11_multiplies_61 rfl ?_
    refine r_aload_n C 0 dX11_multiplies_64 rfl rfl ?_
    refine r_aload_n C 0 dX11_multiplies_65 rfl rfl ?_
    refine r_iload_n C 1 dX11_multiplies_66 rfl rfl ?_
    refine r_iload C 4 dX11_multiplies_67 rfl ?_
    obtain ⟨u16, eu16, h⟩ := bs h
    obtain ⟨q15, eq15, h⟩ := bs h
    refine r_callV C (As := [vI x1, vI x4]) (b := a0) (rest := [vO a0, vI q13.1, vO a0, vI (x4 + x5), vI x3, vO a0]) (st1 := [vI q15.1, vO a0, vI q13.1, vO a0, vI (x4 + x5), vI x3, vO a0]) (v := some (vI q15.1)) (r := (RX11, TX11, 38)) (ci := 9) rfl eu16 (m_X11_of C.tr eq15) (lw_V q1629 q1631 qs70 q133 q1632) rfl hdX11_of rfl rfl (Nat.le_of_ble_eq_true rfl) ⟨by decide, by decide⟩ dX11_multiplies_69 rfl ?_
    refine r_aload_n C 0 dX11_multiplies_72 rfl rfl ?_
    refine r_iload_n C 2 dX11_multiplies_73 rfl rfl ?_
    refine r_iload C 5 dX11_multiplies_74 rfl ?_
    obtain ⟨u18, eu18, h⟩ := bs h
    obtain ⟨q17, eq17, h⟩ := bs h
    refine r_callV C (As := [vI x2, vI x5]) (b := a0) (rest := [vI q15.1, vO a0, vI q13.1, vO a0, vI (x4 + x5), vI x3, vO a0]) (st1 := [vI q17.1, vI q15.1, vO a0, vI q13.1, vO a0, vI (x4 + x5), vI x3, vO a0]) (v := some (vI q17.1)) (r := (RX11, TX11, 38)) (ci := 9) rfl eu18 (m_X11_of C.tr eq17) (lw_V q1629 q1631 qs70 q133 q1632) rfl hdX11_of rfl rfl (Nat.le_of_ble_eq_true rfl) ⟨by decide, by decide⟩ dX11_multiplies_76 rfl ?_
    obtain ⟨u20, eu20, h⟩ := bs h
    obtain ⟨q19, eq19, h⟩ := bs h
    refine r_callV C (As := [vI q15.1, vI q17.1]) (b := a0) (rest := [vI q13.1, vO a0, vI (x4 + x5), vI x3, vO a0]) (st1 := [vI q19.1, vI q13.1, vO a0, vI (x4 + x5), vI x3, vO a0]) (v := some (vI q19.1)) (r := (RX11, TX11, 38)) (ci := 9) rfl eu20 (m_X11_times C.tr eq19) (lw_V q1541 q1543 qs54 q133 q1544) rfl hdX11_times rfl rfl (Nat.le_of_ble_eq_true rfl) ⟨by decide, by decide⟩ dX11_multiplies_79 rfl ?_
    obtain ⟨u22, eu22, h⟩ := bs h
    obtain ⟨q21, eq21, h⟩ := bs h
    refine r_callV C (As := [vI q13.1, vI q19.1]) (b := a0) (rest := [vI (x4 + x5), vI x3, vO a0]) (st1 := [vI q21.1, vI (x4 + x5), vI x3, vO a0]) (v := some (vI q21.1)) (r := (RX11, TX11, 38)) (ci := 9) rfl eu22 (m_X11_plus C.tr eq21) (lw_V q1569 q1571 qs60 q133 q1572) rfl hdX11_plus rfl rfl (Nat.le_of_ble_eq_true rfl) ⟨by decide, by decide⟩ dX11_multiplies_82 rfl ?_
    obtain ⟨u24, eu24, h⟩ := bs h
    obtain ⟨q23, eq23, h⟩ := bs h
    refine r_callV C (As := [vI x3, vI (x4 + x5), vI q21.1]) (b := a0) (rest := []) (st1 := []) (v := none) (r := (RX11, TX11, 38)) (ci := 9) rfl eu24 (m_X11_put C.tr eq23) (lw_V q1621 q1623 qs68 q133 q1624) rfl hdX11_put rfl rfl (Nat.le_of_ble_eq_true rfl) ⟨by decide, by decide⟩ dX11_multiplies_85 rfl ?_
    refine r_iinc C 5 [(5, vI (x5 + 1)), (0, vO a0), (1, vI x1), (2, vI x2), (3, vI x3), (4, vI x4)] dX11_multiplies_88 rfl (by decide) rfl ?_
    refine r_goto C dX11_multiplies_91 (tgt := 35) (by decide) ?_
    cases h
    refine r_sub [1, 2, 3, 4, 5, 0] rfl ?_
    exact hK
noncomputable def s_X11_multiplies_l35 (a0 : Nat) (x1 : Int) (x2 : Int) (x3 : Int) (x4 : Int) (x5 : Int) (μ : Me) : Option ((Int × Me) ⊕ (Me)) :=
  whileO (fun s : Int × Me => s_X11_multiplies_l35_st a0 x1 x2 x3 x4 s.1 s.2) (x5, μ)
theorem e_X11_multiplies_l35 (a0 : Nat) (x1 : Int) (x2 : Int) (x3 : Int) (x4 : Int) (x5 : Int) (μ : Me) : s_X11_multiplies_l35 a0 x1 x2 x3 x4 x5 μ = (s_X11_multiplies_l35_st a0 x1 x2 x3 x4 x5 μ).bind fun x => x.elim (fun s : Int × Me => s_X11_multiplies_l35 a0 x1 x2 x3 x4 s.1 s.2) some := whileO_eq _ _
theorem w_X11_multiplies_l35 {Z : Zt} {fin : Me} {w : ((Int × Me) ⊕ (Me))} (C : CX Z yX11_multiplies cX11_multiplies none 3 6) {a0 : Nat} {x1 : Int} {x2 : Int} {x3 : Int} {x4 : Int} {x5 : Int} {μ : Me} (h : s_X11_multiplies_l35 a0 x1 x2 x3 x4 x5 μ = some w) (hK : (Sum.elim (fun s : Int × Me => WL Z (QN Z none fin) s.2 21 [(0, vO a0), (1, vI x1), (2, vI x2), (3, vI x3), (4, vI s.1)] []) (fun r : Me => r = fin)) w) : WL Z (QN Z none fin) μ 35 [(0, vO a0), (1, vI x1), (2, vI x2), (3, vI x3), (4, vI x4), (5, vI x5)] [] := by
  refine whileO_walk (w := w) (fun s : Int × Me => WL Z (QN Z none fin) s.2 35 [(0, vO a0), (1, vI x1), (2, vI x2), (3, vI x3), (4, vI x4), (5, vI s.1)] []) (fun s v h2 hi hr => ?_) (x5, μ) h
  refine w_X11_multiplies_l35_st (fin := fin) C h2 ?_
  cases v with
  | inl s2 => exact hi s2 rfl
  | inr r => have e := hr r rfl; subst e; exact hK
noncomputable def s_X11_multiplies_l21_st (a0 : Nat) (x1 : Int) (x2 : Int) (x3 : Int) (x4 : Int) (μ : Me) : Option ((Int × Me) ⊕ (Me)) :=
  (gR μ 9 a0 4).bind fun v7 =>
  (aI μ 101 v7 x1).bind fun v8 =>
  (if w32 v8 < w32 x4 then
  some (.inr μ)
  else
  s_X11_multiplies_l35 a0 x1 x2 x3 x4 0 μ)
theorem w_X11_multiplies_l21_st {Z : Zt} {fin : Me} {w : ((Int × Me) ⊕ (Me))} (C : CX Z yX11_multiplies cX11_multiplies none 3 6) {a0 : Nat} {x1 : Int} {x2 : Int} {x3 : Int} {x4 : Int} {μ : Me} (h : s_X11_multiplies_l21_st a0 x1 x2 x3 x4 μ = some w) (hK : (Sum.elim (fun s : Int × Me => WL Z (QN Z none fin) s.2 21 [(0, vO a0), (1, vI x1), (2, vI x2), (3, vI x3), (4, vI s.1)] []) (fun r : Me => r = fin)) w) : WL Z (QN Z none fin) μ 21 [(0, vO a0), (1, vI x1), (2, vI x2), (3, vI x3), (4, vI x4)] [] := by
  unfold s_X11_multiplies_l21_st at h
  refine r_iload C 4 dX11_multiplies_21 rfl ?_
  refine r_aload_n C 0 dX11_multiplies_23 rfl rfl ?_
  obtain ⟨v7, ev7, h⟩ := bs h
  refine r_getR C (c := 9) (r := (RX11, TX11, 38)) rfl 4 (by decide) rfl ev7 q1317 dX11_multiplies_24 ?_
  refine r_iload_n C 1 dX11_multiplies_27 rfl rfl ?_
  obtain ⟨v8, ev8, h⟩ := bs h
  refine r_iald C ev8 dX11_multiplies_28 ?_
  refine r_icmp_gt C dX11_multiplies_29 (tgt := 100) (by decide) (fun c9 => ?_) (fun c9 => ?_)
  · have h := it_ h c9
    cases h
    exact r_vret C hK dX11_multiplies_100
  · have h := ie_ h c9
    refine r_iconst C dX11_multiplies_32 ?_
    refine r_istore C [(5, vI 0), (0, vO a0), (1, vI x1), (2, vI x2), (3, vI x3), (4, vI x4)] dX11_multiplies_33 (by decide) rfl ?_
    refine r_sub [1, 2, 3, 4, 5, 0] rfl ?_
    exact w_X11_multiplies_l35 (fin := fin) C h hK
noncomputable def s_X11_multiplies_l21 (a0 : Nat) (x1 : Int) (x2 : Int) (x3 : Int) (x4 : Int) (μ : Me) : Option (Me) :=
  whileO (fun s : Int × Me => s_X11_multiplies_l21_st a0 x1 x2 x3 s.1 s.2) (x4, μ)
theorem e_X11_multiplies_l21 (a0 : Nat) (x1 : Int) (x2 : Int) (x3 : Int) (x4 : Int) (μ : Me) : s_X11_multiplies_l21 a0 x1 x2 x3 x4 μ = (s_X11_multiplies_l21_st a0 x1 x2 x3 x4 μ).bind fun x => x.elim (fun s : Int × Me => s_X11_multiplies_l21 a0 x1 x2 x3 s.1 s.2) some := whileO_eq _ _
theorem w_X11_multiplies_l21 {Z : Zt} {fin : Me} {w : (Me)} (C : CX Z yX11_multiplies cX11_multiplies none 3 6) {a0 : Nat} {x1 : Int} {x2 : Int} {x3 : Int} {x4 : Int} {μ : Me} (h : s_X11_multiplies_l21 a0 x1 x2 x3 x4 μ = some w) (hK : (fun r : Me => r = fin) w) : WL Z (QN Z none fin) μ 21 [(0, vO a0), (1, vI x1), (2, vI x2), (3, vI x3), (4, vI x4)] [] := by
  refine whileO_walk (w := w) (fun s : Int × Me => WL Z (QN Z none fin) s.2 21 [(0, vO a0), (1, vI x1), (2, vI x2), (3, vI x3), (4, vI s.1)] []) (fun s v h2 hi hr => ?_) (x4, μ) h
  refine w_X11_multiplies_l21_st (fin := fin) C h2 ?_
  cases v with
  | inl s2 => exact hi s2 rfl
  | inr r => have e := hr r rfl; subst e; exact hK
noncomputable def s_X11_multiplies (a0 : Nat) (x1 : Int) (x2 : Int) (x3 : Int) (μ : Me) : Option (Me) :=
  (gR μ 9 a0 4).bind fun v1 =>
  (aI μ 101 v1 x1).bind fun v2 =>
  (gR μ 9 a0 4).bind fun v3 =>
  (aI μ 101 v3 x2).bind fun v4 =>
  (ck μ 9 a0).bind fun _ =>
  (s_X11_clears a0 x3 (v2 + v4) μ).bind fun q5 =>
  s_X11_multiplies_l21 a0 x1 x2 x3 0 q5
theorem w_X11_multiplies {Z : Zt} {fin : Me} {w : Me} (C : CX Z yX11_multiplies cX11_multiplies none 3 6) {a0 : Nat} {x1 : Int} {x2 : Int} {x3 : Int} {μ : Me} (h : s_X11_multiplies a0 x1 x2 x3 μ = some w) (hK : w = fin) : WL Z (QN Z none fin) μ 0 [(0, vO a0), (1, vI x1), (2, vI x2), (3, vI x3)] [] := by
  unfold s_X11_multiplies at h
  refine r_aload_n C 0 dX11_multiplies_0 rfl rfl ?_
  refine r_iload_n C 3 dX11_multiplies_1 rfl rfl ?_
  refine r_aload_n C 0 dX11_multiplies_2 rfl rfl ?_
  obtain ⟨v1, ev1, h⟩ := bs h
  refine r_getR C (c := 9) (r := (RX11, TX11, 38)) rfl 4 (by decide) rfl ev1 q1317 dX11_multiplies_3 ?_
  refine r_iload_n C 1 dX11_multiplies_6 rfl rfl ?_
  obtain ⟨v2, ev2, h⟩ := bs h
  refine r_iald C ev2 dX11_multiplies_7 ?_
  refine r_aload_n C 0 dX11_multiplies_8 rfl rfl ?_
  obtain ⟨v3, ev3, h⟩ := bs h
  refine r_getR C (c := 9) (r := (RX11, TX11, 38)) rfl 4 (by decide) rfl ev3 q1317 dX11_multiplies_9 ?_
  refine r_iload_n C 2 dX11_multiplies_12 rfl rfl ?_
  obtain ⟨v4, ev4, h⟩ := bs h
  refine r_iald C ev4 dX11_multiplies_13 ?_
  refine r_iadd C dX11_multiplies_14 ?_
  obtain ⟨u6, eu6, h⟩ := bs h
  obtain ⟨q5, eq5, h⟩ := bs h
  refine r_callV C (As := [vI x3, vI (v2 + v4)]) (b := a0) (rest := []) (st1 := []) (v := none) (r := (RX11, TX11, 38)) (ci := 9) rfl eu6 (m_X11_clears C.tr eq5) (lw_V q1645 q1647 qs73 q133 q1648) rfl hdX11_clears rfl rfl (Nat.le_of_ble_eq_true rfl) ⟨by decide, by decide⟩ dX11_multiplies_15 rfl ?_
  refine r_iconst C dX11_multiplies_18 ?_
  refine r_istore C [(4, vI 0), (0, vO a0), (1, vI x1), (2, vI x2), (3, vI x3)] dX11_multiplies_19 (by decide) rfl ?_
  refine r_sub [1, 2, 3, 4, 0] rfl ?_
  exact w_X11_multiplies_l21 (fin := fin) C h hK
theorem hdX11_multiplies : zhd yX11_multiplies 3 := by decide +kernel
theorem m_X11_multiplies {l : Launch} {D : va_G} {b0 : Nat} (hl : l.stackTraces = false) {a0 : Nat} {x1 : Int} {x2 : Int} {x3 : Int} {μ : Me} {w : Me} (h : s_X11_multiplies a0 x1 x2 x3 μ = some w) : MN l D b0 yX11_multiplies (ws_ yX11_multiplies cX11_multiplies 6 none) 3 [vO a0, vI x1, vI x2, vI x3] μ none w :=
  MN.of hl (by decide +kernel) (Nat.le_of_ble_eq_true rfl) (fun Z C _ _ => w_X11_multiplies C h rfl)
noncomputable def s_X11_differs_l40_st (a0 : Nat) (x2 : Int) (x4 : Int) (x5 : Int) (x6 : Int) (μ : Me) : Option ((Int × Int × Me) ⊕ (Int × Me)) :=
  (if w32 x4 ≤ w32 x6 then
  some (.inr (x5, μ))
  else
  (ck μ 9 a0).bind fun _ =>
  (s_X11_mod a0 (w32 (x2 - x6)) μ).bind fun q3 =>
  (ck q3.2 9 a0).bind fun _ =>
  (s_X11_times a0 x5 q3.1 q3.2).bind fun q5 =>
  some (.inl (q5.1, (x6 + 1), q5.2)))
theorem w_X11_differs_l40_st {Z : Zt} {fin : Int × Me} {w : ((Int × Int × Me) ⊕ (Int × Me))} (C : CX Z yX11_differs cX11_differs (some .int) 3 7) {a0 : Nat} {x2 : Int} {x4 : Int} {x5 : Int} {x6 : Int} {μ : Me} (h : s_X11_differs_l40_st a0 x2 x4 x5 x6 μ = some w) (hK : (Sum.elim (fun s : Int × Int × Me => WL Z (QN Z (some (vI fin.1)) fin.2) s.2.2 40 [(0, vO a0), (2, vI x2), (4, vI x4), (5, vI s.1), (6, vI s.2.1)] []) (fun r : Int × Me => r = fin)) w) : WL Z (QN Z (some (vI fin.1)) fin.2) μ 40 [(0, vO a0), (2, vI x2), (4, vI x4), (5, vI x5), (6, vI x6)] [] := by
  unfold s_X11_differs_l40_st at h
  refine r_iload C 4 dX11_differs_40 rfl ?_
  refine r_iload C 2 dX11_differs_42 rfl ?_
  refine r_icmp_ge C dX11_differs_44 (tgt := 70) (by decide) (fun c2 => ?_) (fun c2 => ?_)
  · have h := it_ h c2
    refine r_iload C 3 dX11_differs_70 rfl ?_
    cases h
    exact r_iret C hK dX11_differs_72
  · have h := ie_ h c2
    refine r_aload_n C 0 dX11_differs_47 rfl rfl ?_
    refine r_iload C 3 dX11_differs_48 rfl ?_
    refine r_aload_n C 0 dX11_differs_50 rfl rfl ?_
    refine r_iload_n C 1 dX11_differs_51 rfl rfl ?_
    refine r_iload C 4 dX11_differs_52 rfl ?_
    refine r_isub C dX11_differs_54 ?_
    refine r_i2l C dX11_differs_55 ?_
    obtain ⟨u4, eu4, h⟩ := bs h
    obtain ⟨q3, eq3, h⟩ := bs h
    refine r_callV C (As := [vJ (w32 (x2 - x6))]) (b := a0) (rest := [vI x5, vO a0]) (st1 := [vI q3.1, vI x5, vO a0]) (v := some (vI q3.1)) (r := (RX11, TX11, 38)) (ci := 9) rfl eu4 (m_X11_mod C.tr eq3) (lw_V q1518 q1520 qs50 q133 q1521) rfl hdX11_mod rfl rfl (Nat.le_of_ble_eq_true rfl) ⟨by decide, by decide⟩ dX11_differs_56 rfl ?_
    obtain ⟨u6, eu6, h⟩ := bs h
    obtain ⟨q5, eq5, h⟩ := bs h
    refine r_callV C (As := [vI x5, vI q3.1]) (b := a0) (rest := []) (st1 := [vI q5.1]) (v := some (vI q5.1)) (r := (RX11, TX11, 38)) (ci := 9) rfl eu6 (m_X11_times C.tr eq5) (lw_V q1541 q1543 qs54 q133 q1544) rfl hdX11_times rfl rfl (Nat.le_of_ble_eq_true rfl) ⟨by decide, by decide⟩ dX11_differs_59 rfl ?_
    refine r_istore C [(5, vI q5.1), (0, vO a0), (2, vI x2), (4, vI x4), (6, vI x6)] dX11_differs_62 (by decide) rfl ?_
    refine r_iinc C 4 [(6, vI (x6 + 1)), (5, vI q5.1), (0, vO a0), (2, vI x2), (4, vI x4)] dX11_differs_64 rfl (by decide) rfl ?_
    refine r_goto C dX11_differs_67 (tgt := 40) (by decide) ?_
    cases h
    refine r_sub [2, 3, 4, 1, 0] rfl ?_
    exact hK
noncomputable def s_X11_differs_l40 (a0 : Nat) (x2 : Int) (x4 : Int) (x5 : Int) (x6 : Int) (μ : Me) : Option (Int × Me) :=
  whileO (fun s : Int × Int × Me => s_X11_differs_l40_st a0 x2 x4 s.1 s.2.1 s.2.2) (x5, x6, μ)
theorem e_X11_differs_l40 (a0 : Nat) (x2 : Int) (x4 : Int) (x5 : Int) (x6 : Int) (μ : Me) : s_X11_differs_l40 a0 x2 x4 x5 x6 μ = (s_X11_differs_l40_st a0 x2 x4 x5 x6 μ).bind fun x => x.elim (fun s : Int × Int × Me => s_X11_differs_l40 a0 x2 x4 s.1 s.2.1 s.2.2) some := whileO_eq _ _
theorem w_X11_differs_l40 {Z : Zt} {fin : Int × Me} {w : (Int × Me)} (C : CX Z yX11_differs cX11_differs (some .int) 3 7) {a0 : Nat} {x2 : Int} {x4 : Int} {x5 : Int} {x6 : Int} {μ : Me} (h : s_X11_differs_l40 a0 x2 x4 x5 x6 μ = some w) (hK : (fun r : Int × Me => r = fin) w) : WL Z (QN Z (some (vI fin.1)) fin.2) μ 40 [(0, vO a0), (2, vI x2), (4, vI x4), (5, vI x5), (6, vI x6)] [] := by
  refine whileO_walk (w := w) (fun s : Int × Int × Me => WL Z (QN Z (some (vI fin.1)) fin.2) s.2.2 40 [(0, vO a0), (2, vI x2), (4, vI x4), (5, vI s.1), (6, vI s.2.1)] []) (fun s v h2 hi hr => ?_) (x5, x6, μ) h
  refine w_X11_differs_l40_st (fin := fin) C h2 ?_
  cases v with
  | inl s2 => exact hi s2 rfl
  | inr r => have e := hr r rfl; subst e; exact hK
noncomputable def s_X11_differs_l6_st (a0 : Nat) (x1 : Int) (x2 : Int) (x3 : Int) (x4 : Int) (x5 : Int) (x6 : Int) (μ : Me) : Option ((Int × Int × Me) ⊕ (Int × Me)) :=
  (if w32 x3 ≤ w32 x6 then
  (s_X11_differs_l40 a0 x2 x4 x5 0 μ).map Sum.inr
  else
  (ck μ 9 a0).bind fun _ =>
  (s_X11_mod a0 (w32 ((x1 - x2) - x6)) μ).bind fun q7 =>
  (ck q7.2 9 a0).bind fun _ =>
  (s_X11_times a0 x5 q7.1 q7.2).bind fun q9 =>
  some (.inl (q9.1, (x6 + 1), q9.2)))
theorem w_X11_differs_l6_st {Z : Zt} {fin : Int × Me} {w : ((Int × Int × Me) ⊕ (Int × Me))} (C : CX Z yX11_differs cX11_differs (some .int) 3 7) {a0 : Nat} {x1 : Int} {x2 : Int} {x3 : Int} {x4 : Int} {x5 : Int} {x6 : Int} {μ : Me} (h : s_X11_differs_l6_st a0 x1 x2 x3 x4 x5 x6 μ = some w) (hK : (Sum.elim (fun s : Int × Int × Me => WL Z (QN Z (some (vI fin.1)) fin.2) s.2.2 6 [(0, vO a0), (1, vI x1), (2, vI x2), (3, vI x3), (4, vI x4), (5, vI s.1), (6, vI s.2.1)] []) (fun r : Int × Me => r = fin)) w) : WL Z (QN Z (some (vI fin.1)) fin.2) μ 6 [(0, vO a0), (1, vI x1), (2, vI x2), (3, vI x3), (4, vI x4), (5, vI x5), (6, vI x6)] [] := by
  unfold s_X11_differs_l6_st at h
  refine r_iload C 6 dX11_differs_6 rfl ?_
  refine r_iload_n C 3 dX11_differs_8 rfl rfl ?_
  refine r_icmp_ge C dX11_differs_9 (tgt := 37) (by decide) (fun c1 => ?_) (fun c1 => ?_)
  · have h := it_ h c1
    refine r_iconst C dX11_differs_37 ?_
    refine r_istore C [(6, vI 0), (0, vO a0), (1, vI x1), (2, vI x2), (3, vI x3), (4, vI x4), (5, vI x5)] dX11_differs_38 (by decide) rfl ?_
    obtain ⟨z, hz, ez⟩ := ms_ h; clear h; subst ez; have h := hz; clear hz
    refine r_sub [1, 3, 5, 6, 0] rfl ?_
    exact w_X11_differs_l40 (fin := fin) C h hK
  · have h := ie_ h c1
    refine r_aload_n C 0 dX11_differs_12 rfl rfl ?_
    refine r_iload C 5 dX11_differs_13 rfl ?_
    refine r_aload_n C 0 dX11_differs_15 rfl rfl ?_
    refine r_iload_n C 1 dX11_differs_16 rfl rfl ?_
    refine r_iload_n C 2 dX11_differs_17 rfl rfl ?_
    refine r_isub C dX11_differs_18 ?_
    refine r_iload C 6 dX11_differs_19 rfl ?_
    refine r_isub C dX11_differs_21 ?_
    refine r_i2l C dX11_differs_22 ?_
    obtain ⟨u8, eu8, h⟩ := bs h
    obtain ⟨q7, eq7, h⟩ := bs h
    refine r_callV C (As := [vJ (w32 ((x1 - x2) - x6))]) (b := a0) (rest := [vI x5, vO a0]) (st1 := [vI q7.1, vI x5, vO a0]) (v := some (vI q7.1)) (r := (RX11, TX11, 38)) (ci := 9) rfl eu8 (m_X11_mod C.tr eq7) (lw_V q1518 q1520 qs50 q133 q1521) rfl hdX11_mod rfl rfl (Nat.le_of_ble_eq_true rfl) ⟨by decide, by decide⟩ dX11_differs_23 rfl ?_
    obtain ⟨u10, eu10, h⟩ := bs h
    obtain ⟨q9, eq9, h⟩ := bs h
    refine r_callV C (As := [vI x5, vI q7.1]) (b := a0) (rest := []) (st1 := [vI q9.1]) (v := some (vI q9.1)) (r := (RX11, TX11, 38)) (ci := 9) rfl eu10 (m_X11_times C.tr eq9) (lw_V q1541 q1543 qs54 q133 q1544) rfl hdX11_times rfl rfl (Nat.le_of_ble_eq_true rfl) ⟨by decide, by decide⟩ dX11_differs_26 rfl ?_
    refine r_istore C [(5, vI q9.1), (0, vO a0), (1, vI x1), (2, vI x2), (3, vI x3), (4, vI x4), (6, vI x6)] dX11_differs_29 (by decide) rfl ?_
    refine r_iinc C 6 [(6, vI (x6 + 1)), (5, vI q9.1), (0, vO a0), (1, vI x1), (2, vI x2), (3, vI x3), (4, vI x4)] dX11_differs_31 rfl (by decide) rfl ?_
    refine r_goto C dX11_differs_34 (tgt := 6) (by decide) ?_
    cases h
    refine r_sub [2, 3, 4, 5, 6, 1, 0] rfl ?_
    exact hK
noncomputable def s_X11_differs_l6 (a0 : Nat) (x1 : Int) (x2 : Int) (x3 : Int) (x4 : Int) (x5 : Int) (x6 : Int) (μ : Me) : Option (Int × Me) :=
  whileO (fun s : Int × Int × Me => s_X11_differs_l6_st a0 x1 x2 x3 x4 s.1 s.2.1 s.2.2) (x5, x6, μ)
theorem e_X11_differs_l6 (a0 : Nat) (x1 : Int) (x2 : Int) (x3 : Int) (x4 : Int) (x5 : Int) (x6 : Int) (μ : Me) : s_X11_differs_l6 a0 x1 x2 x3 x4 x5 x6 μ = (s_X11_differs_l6_st a0 x1 x2 x3 x4 x5 x6 μ).bind fun x => x.elim (fun s : Int × Int × Me => s_X11_differs_l6 a0 x1 x2 x3 x4 s.1 s.2.1 s.2.2) some := whileO_eq _ _
theorem w_X11_differs_l6 {Z : Zt} {fin : Int × Me} {w : (Int × Me)} (C : CX Z yX11_differs cX11_differs (some .int) 3 7) {a0 : Nat} {x1 : Int} {x2 : Int} {x3 : Int} {x4 : Int} {x5 : Int} {x6 : Int} {μ : Me} (h : s_X11_differs_l6 a0 x1 x2 x3 x4 x5 x6 μ = some w) (hK : (fun r : Int × Me => r = fin) w) : WL Z (QN Z (some (vI fin.1)) fin.2) μ 6 [(0, vO a0), (1, vI x1), (2, vI x2), (3, vI x3), (4, vI x4), (5, vI x5), (6, vI x6)] [] := by
  refine whileO_walk (w := w) (fun s : Int × Int × Me => WL Z (QN Z (some (vI fin.1)) fin.2) s.2.2 6 [(0, vO a0), (1, vI x1), (2, vI x2), (3, vI x3), (4, vI x4), (5, vI s.1), (6, vI s.2.1)] []) (fun s v h2 hi hr => ?_) (x5, x6, μ) h
  refine w_X11_differs_l6_st (fin := fin) C h2 ?_
  cases v with
  | inl s2 => exact hi s2 rfl
  | inr r => have e := hr r rfl; subst e; exact hK
noncomputable def s_X11_differs (a0 : Nat) (x1 : Int) (x2 : Int) (x3 : Int) (x4 : Int) (μ : Me) : Option (Int × Me) :=
  s_X11_differs_l6 a0 x1 x2 x3 x4 1 0 μ
theorem w_X11_differs {Z : Zt} {fin : Int × Me} {w : Int × Me} (C : CX Z yX11_differs cX11_differs (some .int) 3 7) {a0 : Nat} {x1 : Int} {x2 : Int} {x3 : Int} {x4 : Int} {μ : Me} (h : s_X11_differs a0 x1 x2 x3 x4 μ = some w) (hK : w = fin) : WL Z (QN Z (some (vI fin.1)) fin.2) μ 0 [(0, vO a0), (1, vI x1), (2, vI x2), (3, vI x3), (4, vI x4)] [] := by
  unfold s_X11_differs at h
  refine r_iconst C dX11_differs_0 ?_
  refine r_istore C [(5, vI 1), (0, vO a0), (1, vI x1), (2, vI x2), (3, vI x3), (4, vI x4)] dX11_differs_1 (by decide) rfl ?_
  refine r_iconst C dX11_differs_3 ?_
  refine r_istore C [(6, vI 0), (5, vI 1), (0, vO a0), (1, vI x1), (2, vI x2), (3, vI x3), (4, vI x4)] dX11_differs_4 (by decide) rfl ?_
  refine r_sub [2, 3, 4, 5, 6, 1, 0] rfl ?_
  exact w_X11_differs_l6 (fin := fin) C h hK
theorem hdX11_differs : zhd yX11_differs 4 := by decide +kernel
theorem m_X11_differs {l : Launch} {D : va_G} {b0 : Nat} (hl : l.stackTraces = false) {a0 : Nat} {x1 : Int} {x2 : Int} {x3 : Int} {x4 : Int} {μ : Me} {w : Int × Me} (h : s_X11_differs a0 x1 x2 x3 x4 μ = some w) : MN l D b0 yX11_differs (ws_ yX11_differs cX11_differs 7 (some .int)) 3 [vO a0, vI x1, vI x2, vI x3, vI x4] μ (some (vI w.1)) w.2 :=
  MN.of hl (by decide +kernel) (Nat.le_of_ble_eq_true rfl) (fun Z C _ _ => w_X11_differs C h rfl)
noncomputable def s_X11_differentiates_l19_st (a0 : Nat) (x1 : Int) (x2 : Int) (x3 : Int) (x4 : Int) (x5 : Int) (μ : Me) : Option ((Int × Me) ⊕ (Me)) :=
  (gR μ 9 a0 4).bind fun v5 =>
  (aI μ 101 v5 x1).bind fun v6 =>
  (if w32 (v6 - x2) < w32 x5 then
  some (.inr μ)
  else
  (ck μ 9 a0).bind fun _ =>
  (s_X11_of a0 x1 x5 μ).bind fun q8 =>
  (gR q8.2 9 a0 4).bind fun v10 =>
  (aI q8.2 101 v10 x1).bind fun v11 =>
  (ck q8.2 9 a0).bind fun _ =>
  (s_X11_differs a0 v11 x5 x2 x3 q8.2).bind fun q12 =>
  (ck q12.2 9 a0).bind fun _ =>
  (s_X11_times a0 q8.1 q12.1 q12.2).bind fun q14 =>
  (ck q14.2 9 a0).bind fun _ =>
  (s_X11_put a0 x4 (x5 - x3) q14.1 q14.2).bind fun q16 =>
  some (.inl ((x5 + 1), q16)))
theorem w_X11_differentiates_l19_st {Z : Zt} {fin : Me} {w : ((Int × Me) ⊕ (Me))} (C : CX Z yX11_differentiates cX11_differentiates none 4 6) {a0 : Nat} {x1 : Int} {x2 : Int} {x3 : Int} {x4 : Int} {x5 : Int} {μ : Me} (h : s_X11_differentiates_l19_st a0 x1 x2 x3 x4 x5 μ = some w) (hK : (Sum.elim (fun s : Int × Me => WL Z (QN Z none fin) s.2 19 [(0, vO a0), (1, vI x1), (2, vI x2), (3, vI x3), (4, vI x4), (5, vI s.1)] []) (fun r : Me => r = fin)) w) : WL Z (QN Z none fin) μ 19 [(0, vO a0), (1, vI x1), (2, vI x2), (3, vI x3), (4, vI x4), (5, vI x5)] [] := by
  unfold s_X11_differentiates_l19_st at h
  refine r_iload C 5 dX11_differentiates_19 rfl ?_
  refine r_aload_n C 0 dX11_differentiates_21 rfl rfl ?_
  obtain ⟨v5, ev5, h⟩ := bs h
  refine r_getR C (c := 9) (r := (RX11, TX11, 38)) rfl 4 (by decide) rfl ev5 q1317 dX11_differentiates_22 ?_
  refine r_iload_n C 1 dX11_differentiates_25 rfl rfl ?_
  obtain ⟨v6, ev6, h⟩ := bs h
  refine r_iald C ev6 dX11_differentiates_26 ?_
  refine r_iload_n C 2 dX11_differentiates_27 rfl rfl ?_
  refine r_isub C dX11_differentiates_28 ?_
  refine r_icmp_gt C dX11_differentiates_29 (tgt := 73) (by decide) (fun c7 => ?_) (fun c7 => ?_)
  · have h := it_ h c7
    cases h
    exact r_vret C hK dX11_differentiates_73
  · have h := ie_ h c7
    refine r_aload_n C 0 dX11_differentiates_32 rfl rfl ?_
    refine r_iload C 4 dX11_differentiates_33 rfl ?_
    refine r_iload C 5 dX11_differentiates_35 rfl ?_
    refine r_iload_n C 3 dX11_differentiates_37 rfl rfl ?_
    refine r_isub C dX11_differentiates_38 ?_
    refine r_aload_n C 0 dX11_differentiates_39 rfl rfl ?_
    refine r_aload_n C 0 dX11_differentiates_40 rfl rfl ?_
    refine r_iload_n C 1 dX11_differentiates_41 rfl rfl ?_
    refine r_iload C 5 dX11_differentiates_42 rfl ?_
    obtain ⟨u9, eu9, h⟩ := bs h
    obtain ⟨q8, eq8, h⟩ := bs h
    refine r_callV C (As := [vI x1, vI x5]) (b := a0) (rest := [vO a0, vI (x5 - x3), vI x4, vO a0]) (st1 := [vI q8.1, vO a0, vI (x5 - x3), vI x4, vO a0]) (v := some (vI q8.1)) (r := (RX11, TX11, 38)) (ci := 9) rfl eu9 (m_X11_of C.tr eq8) (lw_V q1629 q1631 qs70 q133 q1632) rfl hdX11_of rfl rfl (Nat.le_of_ble_eq_true rfl) ⟨by decide, by decide⟩ dX11_differentiates_44 rfl ?_
    refine r_aload_n C 0 dX11_differentiates_47 rfl rfl ?_
    refine r_aload_n C 0 dX11_differentiates_48 rfl rfl ?_
    obtain ⟨v10, ev10, h⟩ := bs h
    refine r_getR C (c := 9) (r := (RX11, TX11, 38)) rfl 4 (by decide) rfl ev10 q1317 dX11_differentiates_49 ?_
    refine r_iload_n C 1 dX11_differentiates_52 rfl rfl ?_
    obtain ⟨v11, ev11, h⟩ := bs h
    refine r_iald C ev11 dX11_differentiates_53 ?_
    refine r_iload C 5 dX11_differentiates_54 rfl ?_
    refine r_iload_n C 2 dX11_differentiates_56 rfl rfl ?_
    refine r_iload_n C 3 dX11_differentiates_57 rfl rfl ?_
    obtain ⟨u13, eu13, h⟩ := bs h
    obtain ⟨q12, eq12, h⟩ := bs h
    refine r_callV C (As := [vI v11, vI x5, vI x2, vI x3]) (b := a0) (rest := [vI q8.1, vO a0, vI (x5 - x3), vI x4, vO a0]) (st1 := [vI q12.1, vI q8.1, vO a0, vI (x5 - x3), vI x4, vO a0]) (v := some (vI q12.1)) (r := (RX11, TX11, 38)) (ci := 9) rfl eu13 (m_X11_differs C.tr eq12) (lw_V q1713 q1715 qs87 q133 q1716) rfl hdX11_differs rfl rfl (Nat.le_of_ble_eq_true rfl) ⟨by decide, by decide⟩ dX11_differentiates_58 rfl ?_
    obtain ⟨u15, eu15, h⟩ := bs h
    obtain ⟨q14, eq14, h⟩ := bs h
    refine r_callV C (As := [vI q8.1, vI q12.1]) (b := a0) (rest := [vI (x5 - x3), vI x4, vO a0]) (st1 := [vI q14.1, vI (x5 - x3), vI x4, vO a0]) (v := some (vI q14.1)) (r := (RX11, TX11, 38)) (ci := 9) rfl eu15 (m_X11_times C.tr eq14) (lw_V q1541 q1543 qs54 q133 q1544) rfl hdX11_times rfl rfl (Nat.le_of_ble_eq_true rfl) ⟨by decide, by decide⟩ dX11_differentiates_61 rfl ?_
    obtain ⟨u17, eu17, h⟩ := bs h
    obtain ⟨q16, eq16, h⟩ := bs h
    refine r_callV C (As := [vI x4, vI (x5 - x3), vI q14.1]) (b := a0) (rest := []) (st1 := []) (v := none) (r := (RX11, TX11, 38)) (ci := 9) rfl eu17 (m_X11_put C.tr eq16) (lw_V q1621 q1623 qs68 q133 q1624) rfl hdX11_put rfl rfl (Nat.le_of_ble_eq_true rfl) ⟨by decide, by decide⟩ dX11_differentiates_64 rfl ?_
    refine r_iinc C 5 [(5, vI (x5 + 1)), (0, vO a0), (1, vI x1), (2, vI x2), (3, vI x3), (4, vI x4)] dX11_differentiates_67 rfl (by decide) rfl ?_
    refine r_goto C dX11_differentiates_70 (tgt := 19) (by decide) ?_
    cases h
    refine r_sub [1, 2, 3, 4, 5, 0] rfl ?_
    exact hK
noncomputable def s_X11_differentiates_l19 (a0 : Nat) (x1 : Int) (x2 : Int) (x3 : Int) (x4 : Int) (x5 : Int) (μ : Me) : Option (Me) :=
  whileO (fun s : Int × Me => s_X11_differentiates_l19_st a0 x1 x2 x3 x4 s.1 s.2) (x5, μ)
theorem e_X11_differentiates_l19 (a0 : Nat) (x1 : Int) (x2 : Int) (x3 : Int) (x4 : Int) (x5 : Int) (μ : Me) : s_X11_differentiates_l19 a0 x1 x2 x3 x4 x5 μ = (s_X11_differentiates_l19_st a0 x1 x2 x3 x4 x5 μ).bind fun x => x.elim (fun s : Int × Me => s_X11_differentiates_l19 a0 x1 x2 x3 x4 s.1 s.2) some := whileO_eq _ _
theorem w_X11_differentiates_l19 {Z : Zt} {fin : Me} {w : (Me)} (C : CX Z yX11_differentiates cX11_differentiates none 4 6) {a0 : Nat} {x1 : Int} {x2 : Int} {x3 : Int} {x4 : Int} {x5 : Int} {μ : Me} (h : s_X11_differentiates_l19 a0 x1 x2 x3 x4 x5 μ = some w) (hK : (fun r : Me => r = fin) w) : WL Z (QN Z none fin) μ 19 [(0, vO a0), (1, vI x1), (2, vI x2), (3, vI x3), (4, vI x4), (5, vI x5)] [] := by
  refine whileO_walk (w := w) (fun s : Int × Me => WL Z (QN Z none fin) s.2 19 [(0, vO a0), (1, vI x1), (2, vI x2), (3, vI x3), (4, vI x4), (5, vI s.1)] []) (fun s v h2 hi hr => ?_) (x5, μ) h
  refine w_X11_differentiates_l19_st (fin := fin) C h2 ?_
  cases v with
  | inl s2 => exact hi s2 rfl
  | inr r => have e := hr r rfl; subst e; exact hK
noncomputable def s_X11_differentiates (a0 : Nat) (x1 : Int) (x2 : Int) (x3 : Int) (x4 : Int) (μ : Me) : Option (Me) :=
  (gR μ 9 a0 4).bind fun v1 =>
  (aI μ 101 v1 x1).bind fun v2 =>
  (ck μ 9 a0).bind fun _ =>
  (s_X11_clears a0 x4 ((v2 - x2) - x3) μ).bind fun q3 =>
  s_X11_differentiates_l19 a0 x1 x2 x3 x4 x3 q3
theorem w_X11_differentiates {Z : Zt} {fin : Me} {w : Me} (C : CX Z yX11_differentiates cX11_differentiates none 4 6) {a0 : Nat} {x1 : Int} {x2 : Int} {x3 : Int} {x4 : Int} {μ : Me} (h : s_X11_differentiates a0 x1 x2 x3 x4 μ = some w) (hK : w = fin) : WL Z (QN Z none fin) μ 0 [(0, vO a0), (1, vI x1), (2, vI x2), (3, vI x3), (4, vI x4)] [] := by
  unfold s_X11_differentiates at h
  refine r_aload_n C 0 dX11_differentiates_0 rfl rfl ?_
  refine r_iload C 4 dX11_differentiates_1 rfl ?_
  refine r_aload_n C 0 dX11_differentiates_3 rfl rfl ?_
  obtain ⟨v1, ev1, h⟩ := bs h
  refine r_getR C (c := 9) (r := (RX11, TX11, 38)) rfl 4 (by decide) rfl ev1 q1317 dX11_differentiates_4 ?_
  refine r_iload_n C 1 dX11_differentiates_7 rfl rfl ?_
  obtain ⟨v2, ev2, h⟩ := bs h
  refine r_iald C ev2 dX11_differentiates_8 ?_
  refine r_iload_n C 2 dX11_differentiates_9 rfl rfl ?_
  refine r_isub C dX11_differentiates_10 ?_
  refine r_iload_n C 3 dX11_differentiates_11 rfl rfl ?_
  refine r_isub C dX11_differentiates_12 ?_
  obtain ⟨u4, eu4, h⟩ := bs h
  obtain ⟨q3, eq3, h⟩ := bs h
  refine r_callV C (As := [vI x4, vI ((v2 - x2) - x3)]) (b := a0) (rest := []) (st1 := []) (v := none) (r := (RX11, TX11, 38)) (ci := 9) rfl eu4 (m_X11_clears C.tr eq3) (lw_V q1645 q1647 qs73 q133 q1648) rfl hdX11_clears rfl rfl (Nat.le_of_ble_eq_true rfl) ⟨by decide, by decide⟩ dX11_differentiates_13 rfl ?_
  refine r_iload_n C 3 dX11_differentiates_16 rfl rfl ?_
  refine r_istore C [(5, vI x3), (0, vO a0), (1, vI x1), (2, vI x2), (3, vI x3), (4, vI x4)] dX11_differentiates_17 (by decide) rfl ?_
  refine r_sub [1, 2, 3, 4, 5, 0] rfl ?_
  exact w_X11_differentiates_l19 (fin := fin) C h hK
theorem hdX11_differentiates : zhd yX11_differentiates 4 := by decide +kernel
theorem m_X11_differentiates {l : Launch} {D : va_G} {b0 : Nat} (hl : l.stackTraces = false) {a0 : Nat} {x1 : Int} {x2 : Int} {x3 : Int} {x4 : Int} {μ : Me} {w : Me} (h : s_X11_differentiates a0 x1 x2 x3 x4 μ = some w) : MN l D b0 yX11_differentiates (ws_ yX11_differentiates cX11_differentiates 6 none) 4 [vO a0, vI x1, vI x2, vI x3, vI x4] μ none w :=
  MN.of hl (by decide +kernel) (Nat.le_of_ble_eq_true rfl) (fun Z C _ _ => w_X11_differentiates C h rfl)
noncomputable def s_X11_over_l4_st (x0 : Int) (x1 : Int) (x2 : Int) (x3 : Int) (μ : Me) : Option ((Int × Int × Me) ⊕ (Int × Me)) :=
  (if w32 x1 < w32 x3 then
  some (.inr (x2, μ))
  else
  (dvI (x2 * ((x0 - x1) + x3)) x3).bind fun v2 =>
  some (.inl (v2, (x3 + 1), μ)))
theorem w_X11_over_l4_st {Z : Zt} {fin : Int × Me} {w : ((Int × Int × Me) ⊕ (Int × Me))} (C : CX Z yX11_over cX11_over (some .int) 1 4) {x0 : Int} {x1 : Int} {x2 : Int} {x3 : Int} {μ : Me} (h : s_X11_over_l4_st x0 x1 x2 x3 μ = some w) (hK : (Sum.elim (fun s : Int × Int × Me => WL Z (QN Z (some (vI fin.1)) fin.2) s.2.2 4 [(0, vI x0), (1, vI x1), (2, vI s.1), (3, vI s.2.1)] []) (fun r : Int × Me => r = fin)) w) : WL Z (QN Z (some (vI fin.1)) fin.2) μ 4 [(0, vI x0), (1, vI x1), (2, vI x2), (3, vI x3)] [] := by
  unfold s_X11_over_l4_st at h
  refine r_iload_n C 3 dX11_over_4 rfl rfl ?_
  refine r_iload_n C 1 dX11_over_5 rfl rfl ?_
  refine r_icmp_gt C dX11_over_6 (tgt := 25) (by decide) (fun c1 => ?_) (fun c1 => ?_)
  · have h := it_ h c1
    refine r_iload_n C 2 dX11_over_25 rfl rfl ?_
    cases h
    exact r_iret C hK dX11_over_26
  · have h := ie_ h c1
    refine r_iload_n C 2 dX11_over_9 rfl rfl ?_
    refine r_iload_n C 0 dX11_over_10 rfl rfl ?_
    refine r_iload_n C 1 dX11_over_11 rfl rfl ?_
    refine r_isub C dX11_over_12 ?_
    refine r_iload_n C 3 dX11_over_13 rfl rfl ?_
    refine r_iadd C dX11_over_14 ?_
    refine r_imul C dX11_over_15 ?_
    refine r_iload_n C 3 dX11_over_16 rfl rfl ?_
    obtain ⟨v2, ev2, h⟩ := bs h
    refine r_idiv C ev2 dX11_over_17 ?_
    refine r_istore_n C [(2, vI v2), (0, vI x0), (1, vI x1), (3, vI x3)] dX11_over_18 rfl (by decide) rfl ?_
    refine r_iinc C 3 [(3, vI (x3 + 1)), (2, vI v2), (0, vI x0), (1, vI x1)] dX11_over_19 rfl (by decide) rfl ?_
    refine r_goto C dX11_over_22 (tgt := 4) (by decide) ?_
    cases h
    refine r_sub [2, 3, 1, 0] rfl ?_
    exact hK
noncomputable def s_X11_over_l4 (x0 : Int) (x1 : Int) (x2 : Int) (x3 : Int) (μ : Me) : Option (Int × Me) :=
  whileO (fun s : Int × Int × Me => s_X11_over_l4_st x0 x1 s.1 s.2.1 s.2.2) (x2, x3, μ)
theorem e_X11_over_l4 (x0 : Int) (x1 : Int) (x2 : Int) (x3 : Int) (μ : Me) : s_X11_over_l4 x0 x1 x2 x3 μ = (s_X11_over_l4_st x0 x1 x2 x3 μ).bind fun x => x.elim (fun s : Int × Int × Me => s_X11_over_l4 x0 x1 s.1 s.2.1 s.2.2) some := whileO_eq _ _
theorem w_X11_over_l4 {Z : Zt} {fin : Int × Me} {w : (Int × Me)} (C : CX Z yX11_over cX11_over (some .int) 1 4) {x0 : Int} {x1 : Int} {x2 : Int} {x3 : Int} {μ : Me} (h : s_X11_over_l4 x0 x1 x2 x3 μ = some w) (hK : (fun r : Int × Me => r = fin) w) : WL Z (QN Z (some (vI fin.1)) fin.2) μ 4 [(0, vI x0), (1, vI x1), (2, vI x2), (3, vI x3)] [] := by
  refine whileO_walk (w := w) (fun s : Int × Int × Me => WL Z (QN Z (some (vI fin.1)) fin.2) s.2.2 4 [(0, vI x0), (1, vI x1), (2, vI s.1), (3, vI s.2.1)] []) (fun s v h2 hi hr => ?_) (x2, x3, μ) h
  refine w_X11_over_l4_st (fin := fin) C h2 ?_
  cases v with
  | inl s2 => exact hi s2 rfl
  | inr r => have e := hr r rfl; subst e; exact hK
noncomputable def s_X11_over (x0 : Int) (x1 : Int) (μ : Me) : Option (Int × Me) :=
  s_X11_over_l4 x0 x1 1 1 μ
theorem w_X11_over {Z : Zt} {fin : Int × Me} {w : Int × Me} (C : CX Z yX11_over cX11_over (some .int) 1 4) {x0 : Int} {x1 : Int} {μ : Me} (h : s_X11_over x0 x1 μ = some w) (hK : w = fin) : WL Z (QN Z (some (vI fin.1)) fin.2) μ 0 [(0, vI x0), (1, vI x1)] [] := by
  unfold s_X11_over at h
  refine r_iconst C dX11_over_0 ?_
  refine r_istore_n C [(2, vI 1), (0, vI x0), (1, vI x1)] dX11_over_1 rfl (by decide) rfl ?_
  refine r_iconst C dX11_over_2 ?_
  refine r_istore_n C [(3, vI 1), (2, vI 1), (0, vI x0), (1, vI x1)] dX11_over_3 rfl (by decide) rfl ?_
  refine r_sub [2, 3, 1, 0] rfl ?_
  exact w_X11_over_l4 (fin := fin) C h hK
theorem hdX11_over : zhd yX11_over 2 := by decide +kernel
theorem m_X11_over {l : Launch} {D : va_G} {b0 : Nat} (hl : l.stackTraces = false) {x0 : Int} {x1 : Int} {μ : Me} {w : Int × Me} (h : s_X11_over x0 x1 μ = some w) : MN l D b0 yX11_over (ws_ yX11_over cX11_over 4 (some .int)) 1 [vI x0, vI x1] μ (some (vI w.1)) w.2 :=
  MN.of hl (by decide +kernel) (Nat.le_of_ble_eq_true rfl) (fun Z C _ _ => w_X11_over C h rfl)
noncomputable def s_X11_overlaps_l102_st (a0 : Nat) (x1 : Int) (x2 : Int) (x3 : Int) (x4 : Int) (x5 : Int) (x6 : Int) (x7 : Int) (μ : Me) : Option ((Int × Me) ⊕ ((Int × Me) ⊕ (Me))) :=
  (gR μ 9 a0 4).bind fun v19 =>
  (aI μ 101 v19 x4).bind fun v20 =>
  (if w32 v20 < w32 x7 then
  some (.inr (.inl ((x5 + 1), μ)))
  else
  (ck μ 9 a0).bind fun _ =>
  (s_X11_of a0 x4 x7 μ).bind fun q22 =>
  (ck q22.2 9 a0).bind fun _ =>
  (s_X11_of a0 47 x7 q22.2).bind fun q24 =>
  (ck q24.2 9 a0).bind fun _ =>
  (s_X11_times a0 x6 q24.1 q24.2).bind fun q26 =>
  (ck q26.2 9 a0).bind fun _ =>
  (s_X11_plus a0 q22.1 q26.1 q26.2).bind fun q28 =>
  (ck q28.2 9 a0).bind fun _ =>
  (s_X11_put a0 x4 x7 q28.1 q28.2).bind fun q30 =>
  some (.inl ((x7 + 1), q30)))
theorem w_X11_overlaps_l102_st {Z : Zt} {fin : Me} {w : ((Int × Me) ⊕ ((Int × Me) ⊕ (Me)))} (C : CX Z yX11_overlaps cX11_overlaps none 5 8) {a0 : Nat} {x1 : Int} {x2 : Int} {x3 : Int} {x4 : Int} {x5 : Int} {x6 : Int} {x7 : Int} {μ : Me} (h : s_X11_overlaps_l102_st a0 x1 x2 x3 x4 x5 x6 x7 μ = some w) (hK : (Sum.elim (fun s : Int × Me => WL Z (QN Z none fin) s.2 102 [(0, vO a0), (1, vI x1), (2, vI x2), (3, vI x3), (4, vI x4), (5, vI x5), (6, vI x6), (7, vI s.1)] []) (Sum.elim (fun s : Int × Me => WL Z (QN Z none fin) s.2 26 [(0, vO a0), (1, vI x1), (2, vI x2), (3, vI x3), (4, vI x4), (5, vI s.1)] []) (fun r : Me => r = fin))) w) : WL Z (QN Z none fin) μ 102 [(0, vO a0), (1, vI x1), (2, vI x2), (3, vI x3), (4, vI x4), (5, vI x5), (6, vI x6), (7, vI x7)] [] := by
  unfold s_X11_overlaps_l102_st at h
  refine r_iload C 7 dX11_overlaps_102 rfl ?_
  refine r_aload_n C 0 dX11_overlaps_104 rfl rfl ?_
  obtain ⟨v19, ev19, h⟩ := bs h
  refine r_getR C (c := 9) (r := (RX11, TX11, 38)) rfl 4 (by decide) rfl ev19 q1317 dX11_overlaps_105 ?_
  refine r_iload C 4 dX11_overlaps_108 rfl ?_
  obtain ⟨v20, ev20, h⟩ := bs h
  refine r_iald C ev20 dX11_overlaps_110 ?_
  refine r_icmp_gt C dX11_overlaps_111 (tgt := 154) (by decide) (fun c21 => ?_) (fun c21 => ?_)
  · have h := it_ h c21
    refine r_iinc C 5 [(5, vI (x5 + 1)), (0, vO a0), (1, vI x1), (2, vI x2), (3, vI x3), (4, vI x4), (6, vI x6), (7, vI x7)] dX11_overlaps_154 rfl (by decide) rfl ?_
    refine r_goto C dX11_overlaps_157 (tgt := 26) (by decide) ?_
    cases h
    refine r_sub [1, 2, 3, 4, 5, 0] rfl ?_
    exact hK
  · have h := ie_ h c21
    refine r_aload_n C 0 dX11_overlaps_114 rfl rfl ?_
    refine r_iload C 4 dX11_overlaps_115 rfl ?_
    refine r_iload C 7 dX11_overlaps_117 rfl ?_
    refine r_aload_n C 0 dX11_overlaps_119 rfl rfl ?_
    refine r_aload_n C 0 dX11_overlaps_120 rfl rfl ?_
    refine r_iload C 4 dX11_overlaps_121 rfl ?_
    refine r_iload C 7 dX11_overlaps_123 rfl ?_
    obtain ⟨u23, eu23, h⟩ := bs h
    obtain ⟨q22, eq22, h⟩ := bs h
    refine r_callV C (As := [vI x4, vI x7]) (b := a0) (rest := [vO a0, vI x7, vI x4, vO a0]) (st1 := [vI q22.1, vO a0, vI x7, vI x4, vO a0]) (v := some (vI q22.1)) (r := (RX11, TX11, 38)) (ci := 9) rfl eu23 (m_X11_of C.tr eq22) (lw_V q1629 q1631 qs70 q133 q1632) rfl hdX11_of rfl rfl (Nat.le_of_ble_eq_true rfl) ⟨by decide, by decide⟩ dX11_overlaps_125 rfl ?_
    refine r_aload_n C 0 dX11_overlaps_128 rfl rfl ?_
    refine r_iload C 6 dX11_overlaps_129 rfl ?_
    refine r_aload_n C 0 dX11_overlaps_131 rfl rfl ?_
    refine r_bipush C dX11_overlaps_132 (by decide) ?_
    refine r_iload C 7 dX11_overlaps_134 rfl ?_
    obtain ⟨u25, eu25, h⟩ := bs h
    obtain ⟨q24, eq24, h⟩ := bs h
    refine r_callV C (As := [vI 47, vI x7]) (b := a0) (rest := [vI x6, vO a0, vI q22.1, vO a0, vI x7, vI x4, vO a0]) (st1 := [vI q24.1, vI x6, vO a0, vI q22.1, vO a0, vI x7, vI x4, vO a0]) (v := some (vI q24.1)) (r := (RX11, TX11, 38)) (ci := 9) rfl eu25 (m_X11_of C.tr eq24) (lw_V q1629 q1631 qs70 q133 q1632) rfl hdX11_of rfl rfl (Nat.le_of_ble_eq_true rfl) ⟨by decide, by decide⟩ dX11_overlaps_136 rfl ?_
    obtain ⟨u27, eu27, h⟩ := bs h
    obtain ⟨q26, eq26, h⟩ := bs h
    refine r_callV C (As := [vI x6, vI q24.1]) (b := a0) (rest := [vI q22.1, vO a0, vI x7, vI x4, vO a0]) (st1 := [vI q26.1, vI q22.1, vO a0, vI x7, vI x4, vO a0]) (v := some (vI q26.1)) (r := (RX11, TX11, 38)) (ci := 9) rfl eu27 (m_X11_times C.tr eq26) (lw_V q1541 q1543 qs54 q133 q1544) rfl hdX11_times rfl rfl (Nat.le_of_ble_eq_true rfl) ⟨by decide, by decide⟩ dX11_overlaps_139 rfl ?_
    obtain ⟨u29, eu29, h⟩ := bs h
    obtain ⟨q28, eq28, h⟩ := bs h
    refine r_callV C (As := [vI q22.1, vI q26.1]) (b := a0) (rest := [vI x7, vI x4, vO a0]) (st1 := [vI q28.1, vI x7, vI x4, vO a0]) (v := some (vI q28.1)) (r := (RX11, TX11, 38)) (ci := 9) rfl eu29 (m_X11_plus C.tr eq28) (lw_V q1569 q1571 qs60 q133 q1572) rfl hdX11_plus rfl rfl (Nat.le_of_ble_eq_true rfl) ⟨by decide, by decide⟩ dX11_overlaps_142 rfl ?_
    obtain ⟨u31, eu31, h⟩ := bs h
    obtain ⟨q30, eq30, h⟩ := bs h
    refine r_callV C (As := [vI x4, vI x7, vI q28.1]) (b := a0) (rest := []) (st1 := []) (v := none) (r := (RX11, TX11, 38)) (ci := 9) rfl eu31 (m_X11_put C.tr eq30) (lw_V q1621 q1623 qs68 q133 q1624) rfl hdX11_put rfl rfl (Nat.le_of_ble_eq_true rfl) ⟨by decide, by decide⟩ dX11_overlaps_145 rfl ?_
    refine r_iinc C 7 [(7, vI (x7 + 1)), (0, vO a0), (1, vI x1), (2, vI x2), (3, vI x3), (4, vI x4), (5, vI x5), (6, vI x6)] dX11_overlaps_148 rfl (by decide) rfl ?_
    refine r_goto C dX11_overlaps_151 (tgt := 102) (by decide) ?_
    cases h
    refine r_sub [1, 2, 3, 4, 5, 6, 7, 0] rfl ?_
    exact hK
noncomputable def s_X11_overlaps_l102 (a0 : Nat) (x1 : Int) (x2 : Int) (x3 : Int) (x4 : Int) (x5 : Int) (x6 : Int) (x7 : Int) (μ : Me) : Option ((Int × Me) ⊕ (Me)) :=
  whileO (fun s : Int × Me => s_X11_overlaps_l102_st a0 x1 x2 x3 x4 x5 x6 s.1 s.2) (x7, μ)
theorem e_X11_overlaps_l102 (a0 : Nat) (x1 : Int) (x2 : Int) (x3 : Int) (x4 : Int) (x5 : Int) (x6 : Int) (x7 : Int) (μ : Me) : s_X11_overlaps_l102 a0 x1 x2 x3 x4 x5 x6 x7 μ = (s_X11_overlaps_l102_st a0 x1 x2 x3 x4 x5 x6 x7 μ).bind fun x => x.elim (fun s : Int × Me => s_X11_overlaps_l102 a0 x1 x2 x3 x4 x5 x6 s.1 s.2) some := whileO_eq _ _
theorem w_X11_overlaps_l102 {Z : Zt} {fin : Me} {w : ((Int × Me) ⊕ (Me))} (C : CX Z yX11_overlaps cX11_overlaps none 5 8) {a0 : Nat} {x1 : Int} {x2 : Int} {x3 : Int} {x4 : Int} {x5 : Int} {x6 : Int} {x7 : Int} {μ : Me} (h : s_X11_overlaps_l102 a0 x1 x2 x3 x4 x5 x6 x7 μ = some w) (hK : (Sum.elim (fun s : Int × Me => WL Z (QN Z none fin) s.2 26 [(0, vO a0), (1, vI x1), (2, vI x2), (3, vI x3), (4, vI x4), (5, vI s.1)] []) (fun r : Me => r = fin)) w) : WL Z (QN Z none fin) μ 102 [(0, vO a0), (1, vI x1), (2, vI x2), (3, vI x3), (4, vI x4), (5, vI x5), (6, vI x6), (7, vI x7)] [] := by
  refine whileO_walk (w := w) (fun s : Int × Me => WL Z (QN Z none fin) s.2 102 [(0, vO a0), (1, vI x1), (2, vI x2), (3, vI x3), (4, vI x4), (5, vI x5), (6, vI x6), (7, vI s.1)] []) (fun s v h2 hi hr => ?_) (x7, μ) h
  refine w_X11_overlaps_l102_st (fin := fin) C h2 ?_
  cases v with
  | inl s2 => exact hi s2 rfl
  | inr r => have e := hr r rfl; subst e; exact hK
noncomputable def s_X11_overlaps_l26_st (a0 : Nat) (x1 : Int) (x2 : Int) (x3 : Int) (x4 : Int) (x5 : Int) (μ : Me) : Option ((Int × Me) ⊕ (Me)) :=
  (if w32 x3 < w32 x5 then
  some (.inr μ)
  else
  (ck μ 9 a0).bind fun _ =>
  (s_X11_differentiates a0 x1 (x3 - x5) x5 45 μ).bind fun q8 =>
  (ck q8 9 a0).bind fun _ =>
  (s_X11_differentiates a0 x2 x5 (x3 - x5) 46 q8).bind fun q10 =>
  (ck q10 9 a0).bind fun _ =>
  (s_X11_multiplies a0 45 46 47 q10).bind fun q12 =>
  (rmI x5 2).bind fun v14 =>
  (if w32 v14 = 0 then
  (s_X11_over x3 x5 q12).bind fun q32 =>
  (ck q32.2 9 a0).bind fun _ =>
  (s_X11_mod a0 (w32 q32.1) q32.2).bind fun q33 =>
  s_X11_overlaps_l102 a0 x1 x2 x3 x4 x5 q33.1 0 q33.2
  else
  (s_X11_over x3 x5 q12).bind fun q16 =>
  (ck q16.2 9 a0).bind fun _ =>
  (s_X11_mod a0 (w32 (-q16.1)) q16.2).bind fun q17 =>
  s_X11_overlaps_l102 a0 x1 x2 x3 x4 x5 q17.1 0 q17.2))
theorem w_X11_overlaps_l26_st {Z : Zt} {fin : Me} {w : ((Int × Me) ⊕ (Me))} (C : CX Z yX11_overlaps cX11_overlaps none 5 8) {a0 : Nat} {x1 : Int} {x2 : Int} {x3 : Int} {x4 : Int} {x5 : Int} {μ : Me} (h : s_X11_overlaps_l26_st a0 x1 x2 x3 x4 x5 μ = some w) (hK : (Sum.elim (fun s : Int × Me => WL Z (QN Z none fin) s.2 26 [(0, vO a0), (1, vI x1), (2, vI x2), (3, vI x3), (4, vI x4), (5, vI s.1)] []) (fun r : Me => r = fin)) w) : WL Z (QN Z none fin) μ 26 [(0, vO a0), (1, vI x1), (2, vI x2), (3, vI x3), (4, vI x4), (5, vI x5)] [] := by
  unfold s_X11_overlaps_l26_st at h
  refine r_iload C 5 dX11_overlaps_26 rfl ?_
  refine r_iload_n C 3 dX11_overlaps_28 rfl rfl ?_
  refine r_icmp_gt C dX11_overlaps_29 (tgt := 160) (by decide) (fun c7 => ?_) (fun c7 => ?_)
  · have h := it_ h c7
    cases h
    exact r_vret C hK dX11_overlaps_160
  · have h := ie_ h c7
    refine r_aload_n C 0 dX11_overlaps_32 rfl rfl ?_
    refine r_iload_n C 1 dX11_overlaps_33 rfl rfl ?_
    refine r_iload_n C 3 dX11_overlaps_34 rfl rfl ?_
    refine r_iload C 5 dX11_overlaps_35 rfl ?_
    refine r_isub C dX11_overlaps_37 ?_
    refine r_iload C 5 dX11_overlaps_38 rfl ?_
    refine r_bipush C dX11_overlaps_40 (by decide) ?_
    obtain ⟨u9, eu9, h⟩ := bs h
    obtain ⟨q8, eq8, h⟩ := bs h
    refine r_callV C (As := [vI x1, vI (x3 - x5), vI x5, vI 45]) (b := a0) (rest := []) (st1 := []) (v := none) (r := (RX11, TX11, 38)) (ci := 9) rfl eu9 (m_X11_differentiates C.tr eq8) (lw_V q1709 q1711 qs86 q133 q1712) rfl hdX11_differentiates rfl rfl (Nat.le_of_ble_eq_true rfl) ⟨by decide, by decide⟩ dX11_overlaps_42 rfl ?_
    refine r_aload_n C 0 dX11_overlaps_45 rfl rfl ?_
    refine r_iload_n C 2 dX11_overlaps_46 rfl rfl ?_
    refine r_iload C 5 dX11_overlaps_47 rfl ?_
    refine r_iload_n C 3 dX11_overlaps_49 rfl rfl ?_
    refine r_iload C 5 dX11_overlaps_50 rfl ?_
    refine r_isub C dX11_overlaps_52 ?_
    refine r_bipush C dX11_overlaps_53 (by decide) ?_
    obtain ⟨u11, eu11, h⟩ := bs h
    obtain ⟨q10, eq10, h⟩ := bs h
    refine r_callV C (As := [vI x2, vI x5, vI (x3 - x5), vI 46]) (b := a0) (rest := []) (st1 := []) (v := none) (r := (RX11, TX11, 38)) (ci := 9) rfl eu11 (m_X11_differentiates C.tr eq10) (lw_V q1709 q1711 qs86 q133 q1712) rfl hdX11_differentiates rfl rfl (Nat.le_of_ble_eq_true rfl) ⟨by decide, by decide⟩ dX11_overlaps_55 rfl ?_
    refine r_aload_n C 0 dX11_overlaps_58 rfl rfl ?_
    refine r_bipush C dX11_overlaps_59 (by decide) ?_
    refine r_bipush C dX11_overlaps_61 (by decide) ?_
    refine r_bipush C dX11_overlaps_63 (by decide) ?_
    obtain ⟨u13, eu13, h⟩ := bs h
    obtain ⟨q12, eq12, h⟩ := bs h
    refine r_callV C (As := [vI 45, vI 46, vI 47]) (b := a0) (rest := []) (st1 := []) (v := none) (r := (RX11, TX11, 38)) (ci := 9) rfl eu13 (m_X11_multiplies C.tr eq12) (lw_V q1701 q1703 qs84 q133 q1704) rfl hdX11_multiplies rfl rfl (Nat.le_of_ble_eq_true rfl) ⟨by decide, by decide⟩ dX11_overlaps_65 rfl ?_
    refine r_aload_n C 0 dX11_overlaps_68 rfl rfl ?_
    refine r_iload C 5 dX11_overlaps_69 rfl ?_
    refine r_iconst C dX11_overlaps_71 ?_
    obtain ⟨v14, ev14, h⟩ := bs h
    refine r_irem C ev14 dX11_overlaps_72 ?_
    refine r_if_ne C dX11_overlaps_73 (tgt := 86) (by decide) (fun c15 => ?_) (fun c15 => ?_)
    · have h := ie_ h c15
      refine r_iload_n C 3 dX11_overlaps_86 rfl rfl ?_
      refine r_iload C 5 dX11_overlaps_87 rfl ?_
      obtain ⟨q16, eq16, h⟩ := bs h
      refine r_callS C (As := [vI x3, vI x5]) (rest := [vO a0]) (st1 := [vI q16.1, vO a0]) (v := some (vI q16.1)) (m_X11_over C.tr eq16) (lw_S q1717 q1718 q133 q1719) hdX11_over rfl rfl (Nat.le_of_ble_eq_true rfl) ⟨by decide, by decide⟩ dX11_overlaps_89 rfl ?_
      refine r_ineg C dX11_overlaps_92 ?_
      refine r_i2l C dX11_overlaps_93 ?_
      obtain ⟨u18, eu18, h⟩ := bs h
      obtain ⟨q17, eq17, h⟩ := bs h
      refine r_callV C (As := [vJ (w32 (-q16.1))]) (b := a0) (rest := []) (st1 := [vI q17.1]) (v := some (vI q17.1)) (r := (RX11, TX11, 38)) (ci := 9) rfl eu18 (m_X11_mod C.tr eq17) (lw_V q1518 q1520 qs50 q133 q1521) rfl hdX11_mod rfl rfl (Nat.le_of_ble_eq_true rfl) ⟨by decide, by decide⟩ dX11_overlaps_94 rfl ?_
      refine r_istore C [(6, vI q17.1), (0, vO a0), (1, vI x1), (2, vI x2), (3, vI x3), (4, vI x4), (5, vI x5)] dX11_overlaps_97 (by decide) rfl ?_
      refine r_iconst C dX11_overlaps_99 ?_
      refine r_istore C [(7, vI 0), (6, vI q17.1), (0, vO a0), (1, vI x1), (2, vI x2), (3, vI x3), (4, vI x4), (5, vI x5)] dX11_overlaps_100 (by decide) rfl ?_
      refine r_sub [2, 3, 4, 5, 6, 7, 1, 0] rfl ?_
      exact w_X11_overlaps_l102 (fin := fin) C h hK
    · have h := it_ h c15
      refine r_iload_n C 3 dX11_overlaps_76 rfl rfl ?_
      refine r_iload C 5 dX11_overlaps_77 rfl ?_
      obtain ⟨q32, eq32, h⟩ := bs h
      refine r_callS C (As := [vI x3, vI x5]) (rest := [vO a0]) (st1 := [vI q32.1, vO a0]) (v := some (vI q32.1)) (m_X11_over C.tr eq32) (lw_S q1717 q1718 q133 q1719) hdX11_over rfl rfl (Nat.le_of_ble_eq_true rfl) ⟨by decide, by decide⟩ dX11_overlaps_79 rfl ?_
      refine r_i2l C dX11_overlaps_82 ?_
      refine r_goto C dX11_overlaps_83 (tgt := 94) (by decide) ?_
      obtain ⟨u34, eu34, h⟩ := bs h
      obtain ⟨q33, eq33, h⟩ := bs h
      refine r_callV C (As := [vJ (w32 q32.1)]) (b := a0) (rest := []) (st1 := [vI q33.1]) (v := some (vI q33.1)) (r := (RX11, TX11, 38)) (ci := 9) rfl eu34 (m_X11_mod C.tr eq33) (lw_V q1518 q1520 qs50 q133 q1521) rfl hdX11_mod rfl rfl (Nat.le_of_ble_eq_true rfl) ⟨by decide, by decide⟩ dX11_overlaps_94 rfl ?_
      refine r_istore C [(6, vI q33.1), (0, vO a0), (1, vI x1), (2, vI x2), (3, vI x3), (4, vI x4), (5, vI x5)] dX11_overlaps_97 (by decide) rfl ?_
      refine r_iconst C dX11_overlaps_99 ?_
      refine r_istore C [(7, vI 0), (6, vI q33.1), (0, vO a0), (1, vI x1), (2, vI x2), (3, vI x3), (4, vI x4), (5, vI x5)] dX11_overlaps_100 (by decide) rfl ?_
      refine r_sub [2, 3, 4, 5, 6, 7, 1, 0] rfl ?_
      exact w_X11_overlaps_l102 (fin := fin) C h hK
noncomputable def s_X11_overlaps_l26 (a0 : Nat) (x1 : Int) (x2 : Int) (x3 : Int) (x4 : Int) (x5 : Int) (μ : Me) : Option (Me) :=
  whileO (fun s : Int × Me => s_X11_overlaps_l26_st a0 x1 x2 x3 x4 s.1 s.2) (x5, μ)
theorem e_X11_overlaps_l26 (a0 : Nat) (x1 : Int) (x2 : Int) (x3 : Int) (x4 : Int) (x5 : Int) (μ : Me) : s_X11_overlaps_l26 a0 x1 x2 x3 x4 x5 μ = (s_X11_overlaps_l26_st a0 x1 x2 x3 x4 x5 μ).bind fun x => x.elim (fun s : Int × Me => s_X11_overlaps_l26 a0 x1 x2 x3 x4 s.1 s.2) some := whileO_eq _ _
theorem w_X11_overlaps_l26 {Z : Zt} {fin : Me} {w : (Me)} (C : CX Z yX11_overlaps cX11_overlaps none 5 8) {a0 : Nat} {x1 : Int} {x2 : Int} {x3 : Int} {x4 : Int} {x5 : Int} {μ : Me} (h : s_X11_overlaps_l26 a0 x1 x2 x3 x4 x5 μ = some w) (hK : (fun r : Me => r = fin) w) : WL Z (QN Z none fin) μ 26 [(0, vO a0), (1, vI x1), (2, vI x2), (3, vI x3), (4, vI x4), (5, vI x5)] [] := by
  refine whileO_walk (w := w) (fun s : Int × Me => WL Z (QN Z none fin) s.2 26 [(0, vO a0), (1, vI x1), (2, vI x2), (3, vI x3), (4, vI x4), (5, vI s.1)] []) (fun s v h2 hi hr => ?_) (x5, μ) h
  refine w_X11_overlaps_l26_st (fin := fin) C h2 ?_
  cases v with
  | inl s2 => exact hi s2 rfl
  | inr r => have e := hr r rfl; subst e; exact hK
noncomputable def s_X11_overlaps (a0 : Nat) (x1 : Int) (x2 : Int) (x3 : Int) (x4 : Int) (μ : Me) : Option (Me) :=
  (gR μ 9 a0 4).bind fun v1 =>
  (aI μ 101 v1 x1).bind fun v2 =>
  (gR μ 9 a0 4).bind fun v3 =>
  (aI μ 101 v3 x2).bind fun v4 =>
  (ck μ 9 a0).bind fun _ =>
  (s_X11_clears a0 x4 ((v2 + v4) - (2 * x3)) μ).bind fun q5 =>
  s_X11_overlaps_l26 a0 x1 x2 x3 x4 0 q5
theorem w_X11_overlaps {Z : Zt} {fin : Me} {w : Me} (C : CX Z yX11_overlaps cX11_overlaps none 5 8) {a0 : Nat} {x1 : Int} {x2 : Int} {x3 : Int} {x4 : Int} {μ : Me} (h : s_X11_overlaps a0 x1 x2 x3 x4 μ = some w) (hK : w = fin) : WL Z (QN Z none fin) μ 0 [(0, vO a0), (1, vI x1), (2, vI x2), (3, vI x3), (4, vI x4)] [] := by
  unfold s_X11_overlaps at h
  refine r_aload_n C 0 dX11_overlaps_0 rfl rfl ?_
  refine r_iload C 4 dX11_overlaps_1 rfl ?_
  refine r_aload_n C 0 dX11_overlaps_3 rfl rfl ?_
  obtain ⟨v1, ev1, h⟩ := bs h
  refine r_getR C (c := 9) (r := (RX11, TX11, 38)) rfl 4 (by decide) rfl ev1 q1317 dX11_overlaps_4 ?_
  refine r_iload_n C 1 dX11_overlaps_7 rfl rfl ?_
  obtain ⟨v2, ev2, h⟩ := bs h
  refine r_iald C ev2 dX11_overlaps_8 ?_
  refine r_aload_n C 0 dX11_overlaps_9 rfl rfl ?_
  obtain ⟨v3, ev3, h⟩ := bs h
  refine r_getR C (c := 9) (r := (RX11, TX11, 38)) rfl 4 (by decide) rfl ev3 q1317 dX11_overlaps_10 ?_
  refine r_iload_n C 2 dX11_overlaps_13 rfl rfl ?_
  obtain ⟨v4, ev4, h⟩ := bs h
  refine r_iald C ev4 dX11_overlaps_14 ?_
  refine r_iadd C dX11_overlaps_15 ?_
  refine r_iconst C dX11_overlaps_16 ?_
  refine r_iload_n C 3 dX11_overlaps_17 rfl rfl ?_
  refine r_imul C dX11_overlaps_18 ?_
  refine r_isub C dX11_overlaps_19 ?_
  obtain ⟨u6, eu6, h⟩ := bs h
  obtain ⟨q5, eq5, h⟩ := bs h
  refine r_callV C (As := [vI x4, vI ((v2 + v4) - (2 * x3))]) (b := a0) (rest := []) (st1 := []) (v := none) (r := (RX11, TX11, 38)) (ci := 9) rfl eu6 (m_X11_clears C.tr eq5) (lw_V q1645 q1647 qs73 q133 q1648) rfl hdX11_clears rfl rfl (Nat.le_of_ble_eq_true rfl) ⟨by decide, by decide⟩ dX11_overlaps_20 rfl ?_
  refine r_iconst C dX11_overlaps_23 ?_
  refine r_istore C [(5, vI 0), (0, vO a0), (1, vI x1), (2, vI x2), (3, vI x3), (4, vI x4)] dX11_overlaps_24 (by decide) rfl ?_
  refine r_sub [1, 2, 3, 4, 5, 0] rfl ?_
  exact w_X11_overlaps_l26 (fin := fin) C h hK
theorem hdX11_overlaps : zhd yX11_overlaps 4 := by decide +kernel
theorem m_X11_overlaps {l : Launch} {D : va_G} {b0 : Nat} (hl : l.stackTraces = false) {a0 : Nat} {x1 : Int} {x2 : Int} {x3 : Int} {x4 : Int} {μ : Me} {w : Me} (h : s_X11_overlaps a0 x1 x2 x3 x4 μ = some w) : MN l D b0 yX11_overlaps (ws_ yX11_overlaps cX11_overlaps 8 none) 5 [vO a0, vI x1, vI x2, vI x3, vI x4] μ none w :=
  MN.of hl (by decide +kernel) (Nat.le_of_ble_eq_true rfl) (fun Z C _ _ => w_X11_overlaps C h rfl)
noncomputable def s_X11_joins_b171 (a0 : Nat) (x3 : Int)  (μ : Me) : Option (Int × Me) :=
  (ck μ 9 a0).bind fun _ =>
  (s_X11_copies a0 43 x3 μ).bind fun q17 =>
  some (1, q17)
theorem w_X11_joins_b171 {Z : Zt} {fin : Int × Me} {w : (Int × Me)} (C : CX Z yX11_joins cX11_joins (some .boolean) 6 6) {a0 : Nat} {x3 : Int}  {μ : Me} (h : s_X11_joins_b171 a0 x3 μ = some w) (hK : (fun r : Int × Me => r = fin) w) : WL Z (QN Z (some (vI fin.1)) fin.2) μ 171 [(0, vO a0), (3, vI x3)] [] := by
  unfold s_X11_joins_b171 at h
  refine r_aload_n C 0 dX11_joins_171 rfl rfl ?_
  refine r_bipush C dX11_joins_172 (by decide) ?_
  refine r_iload_n C 1 dX11_joins_174 rfl rfl ?_
  obtain ⟨u18, eu18, h⟩ := bs h
  obtain ⟨q17, eq17, h⟩ := bs h
  refine r_callV C (As := [vI 43, vI x3]) (b := a0) (rest := []) (st1 := []) (v := none) (r := (RX11, TX11, 38)) (ci := 9) rfl eu18 (m_X11_copies C.tr eq17) (lw_V q1689 q1691 qs81 q133 q1692) rfl hdX11_copies rfl rfl (Nat.le_of_ble_eq_true rfl) ⟨by decide, by decide⟩ dX11_joins_175 rfl ?_
  refine r_iconst C dX11_joins_178 ?_
  cases h
  exact r_zret C (Or.inr rfl) hK dX11_joins_179
noncomputable def s_X11_joins_b144 (a0 : Nat) (x1 : Int) (x2 : Int) (x3 : Int) (x4 : Int)  (μ : Me) : Option (Int × Me) :=
  (if w32 x1 = w32 3 then
  (ck μ 9 a0).bind fun _ =>
  (s_X11_multiplies a0 x3 x4 43 μ).bind fun q19 =>
  s_X11_joins_b171 a0 x3 q19
  else
  (ck μ 9 a0).bind fun _ =>
  (s_X11_overlaps a0 x3 x4 x2 43 μ).bind fun q15 =>
  s_X11_joins_b171 a0 x3 q15)
theorem w_X11_joins_b144 {Z : Zt} {fin : Int × Me} {w : (Int × Me)} (C : CX Z yX11_joins cX11_joins (some .boolean) 6 6) {a0 : Nat} {x1 : Int} {x2 : Int} {x3 : Int} {x4 : Int}  {μ : Me} (h : s_X11_joins_b144 a0 x1 x2 x3 x4 μ = some w) (hK : (fun r : Int × Me => r = fin) w) : WL Z (QN Z (some (vI fin.1)) fin.2) μ 144 [(0, vO a0), (1, vI x1), (2, vI x2), (3, vI x3), (4, vI x4)] [] := by
  unfold s_X11_joins_b144 at h
  refine r_iload_n C 1 dX11_joins_144 rfl rfl ?_
  refine r_iconst C dX11_joins_145 ?_
  refine r_icmp_ne C dX11_joins_146 (tgt := 161) (by decide) (fun c14 => ?_) (fun c14 => ?_)
  · have h := ie_ h c14
    refine r_aload_n C 0 dX11_joins_161 rfl rfl ?_
    refine r_iload_n C 3 dX11_joins_162 rfl rfl ?_
    refine r_iload C 4 dX11_joins_163 rfl ?_
    refine r_iload_n C 2 dX11_joins_165 rfl rfl ?_
    refine r_bipush C dX11_joins_166 (by decide) ?_
    obtain ⟨u16, eu16, h⟩ := bs h
    obtain ⟨q15, eq15, h⟩ := bs h
    refine r_callV C (As := [vI x3, vI x4, vI x2, vI 43]) (b := a0) (rest := []) (st1 := []) (v := none) (r := (RX11, TX11, 38)) (ci := 9) rfl eu16 (m_X11_overlaps C.tr eq15) (lw_V q1705 q1707 qs85 q133 q1708) rfl hdX11_overlaps rfl rfl (Nat.le_of_ble_eq_true rfl) ⟨by decide, by decide⟩ dX11_joins_168 rfl ?_
    refine r_sub [0, 3] rfl ?_
    exact w_X11_joins_b171 (fin := fin) C h hK
  · have h := it_ h c14
    refine r_aload_n C 0 dX11_joins_149 rfl rfl ?_
    refine r_iload_n C 3 dX11_joins_150 rfl rfl ?_
    refine r_iload C 4 dX11_joins_151 rfl ?_
    refine r_bipush C dX11_joins_153 (by decide) ?_
    obtain ⟨u20, eu20, h⟩ := bs h
    obtain ⟨q19, eq19, h⟩ := bs h
    refine r_callV C (As := [vI x3, vI x4, vI 43]) (b := a0) (rest := []) (st1 := []) (v := none) (r := (RX11, TX11, 38)) (ci := 9) rfl eu20 (m_X11_multiplies C.tr eq19) (lw_V q1701 q1703 qs84 q133 q1704) rfl hdX11_multiplies rfl rfl (Nat.le_of_ble_eq_true rfl) ⟨by decide, by decide⟩ dX11_joins_155 rfl ?_
    refine r_goto C dX11_joins_158 (tgt := 171) (by decide) ?_
    refine r_sub [0, 3] rfl ?_
    exact w_X11_joins_b171 (fin := fin) C h hK
noncomputable def s_X11_joins_l26_st (a0 : Nat) (x3 : Int) (x4 : Int) (x5 : Int) (μ : Me) : Option ((Int × Me) ⊕ (Int × Me)) :=
  (gR μ 9 a0 4).bind fun v31 =>
  (aI μ 101 v31 x3).bind fun v32 =>
  (if w32 v32 < w32 x5 then
  some (.inr (1, μ))
  else
  (ck μ 9 a0).bind fun _ =>
  (s_X11_of a0 x3 x5 μ).bind fun q34 =>
  (ck q34.2 9 a0).bind fun _ =>
  (s_X11_of a0 x4 x5 q34.2).bind fun q36 =>
  (ck q36.2 9 a0).bind fun _ =>
  (s_X11_plus a0 q34.1 q36.1 q36.2).bind fun q38 =>
  (ck q38.2 9 a0).bind fun _ =>
  (s_X11_put a0 x3 x5 q38.1 q38.2).bind fun q40 =>
  some (.inl ((x5 + 1), q40)))
theorem w_X11_joins_l26_st {Z : Zt} {fin : Int × Me} {w : ((Int × Me) ⊕ (Int × Me))} (C : CX Z yX11_joins cX11_joins (some .boolean) 6 6) {a0 : Nat} {x3 : Int} {x4 : Int} {x5 : Int} {μ : Me} (h : s_X11_joins_l26_st a0 x3 x4 x5 μ = some w) (hK : (Sum.elim (fun s : Int × Me => WL Z (QN Z (some (vI fin.1)) fin.2) s.2 26 [(0, vO a0), (3, vI x3), (4, vI x4), (5, vI s.1)] []) (fun r : Int × Me => r = fin)) w) : WL Z (QN Z (some (vI fin.1)) fin.2) μ 26 [(0, vO a0), (3, vI x3), (4, vI x4), (5, vI x5)] [] := by
  unfold s_X11_joins_l26_st at h
  refine r_iload C 3 dX11_joins_26 rfl ?_
  refine r_aload_n C 0 dX11_joins_28 rfl rfl ?_
  obtain ⟨v31, ev31, h⟩ := bs h
  refine r_getR C (c := 9) (r := (RX11, TX11, 38)) rfl 4 (by decide) rfl ev31 q1317 dX11_joins_29 ?_
  refine r_iload_n C 1 dX11_joins_32 rfl rfl ?_
  obtain ⟨v32, ev32, h⟩ := bs h
  refine r_iald C ev32 dX11_joins_33 ?_
  refine r_icmp_gt C dX11_joins_34 (tgt := 69) (by decide) (fun c33 => ?_) (fun c33 => ?_)
  · have h := it_ h c33
    refine r_iconst C dX11_joins_69 ?_
    cases h
    exact r_zret C (Or.inr rfl) hK dX11_joins_70
  · have h := ie_ h c33
    refine r_aload_n C 0 dX11_joins_37 rfl rfl ?_
    refine r_iload_n C 1 dX11_joins_38 rfl rfl ?_
    refine r_iload C 3 dX11_joins_39 rfl ?_
    refine r_aload_n C 0 dX11_joins_41 rfl rfl ?_
    refine r_aload_n C 0 dX11_joins_42 rfl rfl ?_
    refine r_iload_n C 1 dX11_joins_43 rfl rfl ?_
    refine r_iload C 3 dX11_joins_44 rfl ?_
    obtain ⟨u35, eu35, h⟩ := bs h
    obtain ⟨q34, eq34, h⟩ := bs h
    refine r_callV C (As := [vI x3, vI x5]) (b := a0) (rest := [vO a0, vI x5, vI x3, vO a0]) (st1 := [vI q34.1, vO a0, vI x5, vI x3, vO a0]) (v := some (vI q34.1)) (r := (RX11, TX11, 38)) (ci := 9) rfl eu35 (m_X11_of C.tr eq34) (lw_V q1629 q1631 qs70 q133 q1632) rfl hdX11_of rfl rfl (Nat.le_of_ble_eq_true rfl) ⟨by decide, by decide⟩ dX11_joins_46 rfl ?_
    refine r_aload_n C 0 dX11_joins_49 rfl rfl ?_
    refine r_iload C 2 dX11_joins_50 rfl ?_
    refine r_iload C 3 dX11_joins_52 rfl ?_
    obtain ⟨u37, eu37, h⟩ := bs h
    obtain ⟨q36, eq36, h⟩ := bs h
    refine r_callV C (As := [vI x4, vI x5]) (b := a0) (rest := [vI q34.1, vO a0, vI x5, vI x3, vO a0]) (st1 := [vI q36.1, vI q34.1, vO a0, vI x5, vI x3, vO a0]) (v := some (vI q36.1)) (r := (RX11, TX11, 38)) (ci := 9) rfl eu37 (m_X11_of C.tr eq36) (lw_V q1629 q1631 qs70 q133 q1632) rfl hdX11_of rfl rfl (Nat.le_of_ble_eq_true rfl) ⟨by decide, by decide⟩ dX11_joins_54 rfl ?_
    obtain ⟨u39, eu39, h⟩ := bs h
    obtain ⟨q38, eq38, h⟩ := bs h
    refine r_callV C (As := [vI q34.1, vI q36.1]) (b := a0) (rest := [vI x5, vI x3, vO a0]) (st1 := [vI q38.1, vI x5, vI x3, vO a0]) (v := some (vI q38.1)) (r := (RX11, TX11, 38)) (ci := 9) rfl eu39 (m_X11_plus C.tr eq38) (lw_V q1569 q1571 qs60 q133 q1572) rfl hdX11_plus rfl rfl (Nat.le_of_ble_eq_true rfl) ⟨by decide, by decide⟩ dX11_joins_57 rfl ?_
    obtain ⟨u41, eu41, h⟩ := bs h
    obtain ⟨q40, eq40, h⟩ := bs h
    refine r_callV C (As := [vI x3, vI x5, vI q38.1]) (b := a0) (rest := []) (st1 := []) (v := none) (r := (RX11, TX11, 38)) (ci := 9) rfl eu41 (m_X11_put C.tr eq40) (lw_V q1621 q1623 qs68 q133 q1624) rfl hdX11_put rfl rfl (Nat.le_of_ble_eq_true rfl) ⟨by decide, by decide⟩ dX11_joins_60 rfl ?_
    refine r_iinc C 3 [(5, vI (x5 + 1)), (0, vO a0), (3, vI x3), (4, vI x4)] dX11_joins_63 rfl (by decide) rfl ?_
    refine r_goto C dX11_joins_66 (tgt := 26) (by decide) ?_
    cases h
    refine r_sub [1, 2, 3, 0] rfl ?_
    exact hK
noncomputable def s_X11_joins_l26 (a0 : Nat) (x3 : Int) (x4 : Int) (x5 : Int) (μ : Me) : Option (Int × Me) :=
  whileO (fun s : Int × Me => s_X11_joins_l26_st a0 x3 x4 s.1 s.2) (x5, μ)
theorem e_X11_joins_l26 (a0 : Nat) (x3 : Int) (x4 : Int) (x5 : Int) (μ : Me) : s_X11_joins_l26 a0 x3 x4 x5 μ = (s_X11_joins_l26_st a0 x3 x4 x5 μ).bind fun x => x.elim (fun s : Int × Me => s_X11_joins_l26 a0 x3 x4 s.1 s.2) some := whileO_eq _ _
theorem w_X11_joins_l26 {Z : Zt} {fin : Int × Me} {w : (Int × Me)} (C : CX Z yX11_joins cX11_joins (some .boolean) 6 6) {a0 : Nat} {x3 : Int} {x4 : Int} {x5 : Int} {μ : Me} (h : s_X11_joins_l26 a0 x3 x4 x5 μ = some w) (hK : (fun r : Int × Me => r = fin) w) : WL Z (QN Z (some (vI fin.1)) fin.2) μ 26 [(0, vO a0), (3, vI x3), (4, vI x4), (5, vI x5)] [] := by
  refine whileO_walk (w := w) (fun s : Int × Me => WL Z (QN Z (some (vI fin.1)) fin.2) s.2 26 [(0, vO a0), (3, vI x3), (4, vI x4), (5, vI s.1)] []) (fun s v h2 hi hr => ?_) (x5, μ) h
  refine w_X11_joins_l26_st (fin := fin) C h2 ?_
  cases v with
  | inl s2 => exact hi s2 rfl
  | inr r => have e := hr r rfl; subst e; exact hK
noncomputable def s_X11_joins (a0 : Nat) (x1 : Int) (x2 : Int) (x3 : Int) (x4 : Int) (μ : Me) : Option (Int × Me) :=
  (if w32 x1 = w32 2 then
  (gR μ 9 a0 4).bind fun v26 =>
  (aI μ 101 v26 x3).bind fun v27 =>
  (gR μ 9 a0 4).bind fun v28 =>
  (aI μ 101 v28 x4).bind fun v29 =>
  (if w32 v27 = w32 v29 then
  s_X11_joins_l26 a0 x3 x4 0 μ
  else
  some (0, μ))
  else
  (if w32 x1 = w32 3 then
  (gR μ 9 a0 4).bind fun v21 =>
  (aI μ 101 v21 x3).bind fun v22 =>
  (gR μ 9 a0 4).bind fun v23 =>
  (aI μ 101 v23 x4).bind fun v24 =>
  (if w32 (v22 + v24) < w32 41 then
  s_X11_joins_b144 a0 x1 x2 x3 x4 μ
  else
  some (0, μ))
  else
  (gR μ 9 a0 4).bind fun v3 =>
  (aI μ 101 v3 x3).bind fun v4 =>
  (if w32 v4 < w32 x2 then
  some (0, μ)
  else
  (gR μ 9 a0 4).bind fun v6 =>
  (aI μ 101 v6 x4).bind fun v7 =>
  (if w32 v7 < w32 x2 then
  some (0, μ)
  else
  (gR μ 9 a0 4).bind fun v9 =>
  (aI μ 101 v9 x3).bind fun v10 =>
  (gR μ 9 a0 4).bind fun v11 =>
  (aI μ 101 v11 x4).bind fun v12 =>
  (if w32 ((v10 + v12) - (2 * x2)) < w32 41 then
  s_X11_joins_b144 a0 x1 x2 x3 x4 μ
  else
  some (0, μ))))))
theorem w_X11_joins {Z : Zt} {fin : Int × Me} {w : Int × Me} (C : CX Z yX11_joins cX11_joins (some .boolean) 6 6) {a0 : Nat} {x1 : Int} {x2 : Int} {x3 : Int} {x4 : Int} {μ : Me} (h : s_X11_joins a0 x1 x2 x3 x4 μ = some w) (hK : w = fin) : WL Z (QN Z (some (vI fin.1)) fin.2) μ 0 [(0, vO a0), (1, vI x1), (2, vI x2), (3, vI x3), (4, vI x4)] [] := by
  unfold s_X11_joins at h
  refine r_iload_n C 1 dX11_joins_0 rfl rfl ?_
  refine r_iconst C dX11_joins_1 ?_
  refine r_icmp_ne C dX11_joins_2 (tgt := 71) (by decide) (fun c1 => ?_) (fun c1 => ?_)
  · have h := ie_ h c1
    refine r_iload_n C 1 dX11_joins_71 rfl rfl ?_
    refine r_iconst C dX11_joins_72 ?_
    refine r_icmp_ne C dX11_joins_73 (tgt := 98) (by decide) (fun c2 => ?_) (fun c2 => ?_)
    · have h := ie_ h c2
      refine r_iload_n C 2 dX11_joins_98 rfl rfl ?_
      refine r_aload_n C 0 dX11_joins_99 rfl rfl ?_
      obtain ⟨v3, ev3, h⟩ := bs h
      refine r_getR C (c := 9) (r := (RX11, TX11, 38)) rfl 4 (by decide) rfl ev3 q1317 dX11_joins_100 ?_
      refine r_iload_n C 3 dX11_joins_103 rfl rfl ?_
      obtain ⟨v4, ev4, h⟩ := bs h
      refine r_iald C ev4 dX11_joins_104 ?_
      refine r_icmp_gt C dX11_joins_105 (tgt := 142) (by decide) (fun c5 => ?_) (fun c5 => ?_)
      · have h := it_ h c5
        refine r_iconst C dX11_joins_142 ?_
        cases h
        exact r_zret C (Or.inl rfl) hK dX11_joins_143
      · have h := ie_ h c5
        refine r_iload_n C 2 dX11_joins_108 rfl rfl ?_
        refine r_aload_n C 0 dX11_joins_109 rfl rfl ?_
        obtain ⟨v6, ev6, h⟩ := bs h
        refine r_getR C (c := 9) (r := (RX11, TX11, 38)) rfl 4 (by decide) rfl ev6 q1317 dX11_joins_110 ?_
        refine r_iload C 4 dX11_joins_113 rfl ?_
        obtain ⟨v7, ev7, h⟩ := bs h
        refine r_iald C ev7 dX11_joins_115 ?_
        refine r_icmp_gt C dX11_joins_116 (tgt := 142) (by decide) (fun c8 => ?_) (fun c8 => ?_)
        · have h := it_ h c8
          refine r_iconst C dX11_joins_142 ?_
          cases h
          exact r_zret C (Or.inl rfl) hK dX11_joins_143
        · have h := ie_ h c8
          refine r_aload_n C 0 dX11_joins_119 rfl rfl ?_
          obtain ⟨v9, ev9, h⟩ := bs h
          refine r_getR C (c := 9) (r := (RX11, TX11, 38)) rfl 4 (by decide) rfl ev9 q1317 dX11_joins_120 ?_
          refine r_iload_n C 3 dX11_joins_123 rfl rfl ?_
          obtain ⟨v10, ev10, h⟩ := bs h
          refine r_iald C ev10 dX11_joins_124 ?_
          refine r_aload_n C 0 dX11_joins_125 rfl rfl ?_
          obtain ⟨v11, ev11, h⟩ := bs h
          refine r_getR C (c := 9) (r := (RX11, TX11, 38)) rfl 4 (by decide) rfl ev11 q1317 dX11_joins_126 ?_
          refine r_iload C 4 dX11_joins_129 rfl ?_
          obtain ⟨v12, ev12, h⟩ := bs h
          refine r_iald C ev12 dX11_joins_131 ?_
          refine r_iadd C dX11_joins_132 ?_
          refine r_iconst C dX11_joins_133 ?_
          refine r_iload_n C 2 dX11_joins_134 rfl rfl ?_
          refine r_imul C dX11_joins_135 ?_
          refine r_isub C dX11_joins_136 ?_
          refine r_bipush C dX11_joins_137 (by decide) ?_
          refine r_icmp_lt C dX11_joins_139 (tgt := 144) (by decide) (fun c13 => ?_) (fun c13 => ?_)
          · have h := it_ h c13
            exact w_X11_joins_b144 (fin := fin) C h hK
          · have h := ie_ h c13
            refine r_iconst C dX11_joins_142 ?_
            cases h
            exact r_zret C (Or.inl rfl) hK dX11_joins_143
    · have h := it_ h c2
      refine r_aload_n C 0 dX11_joins_76 rfl rfl ?_
      obtain ⟨v21, ev21, h⟩ := bs h
      refine r_getR C (c := 9) (r := (RX11, TX11, 38)) rfl 4 (by decide) rfl ev21 q1317 dX11_joins_77 ?_
      refine r_iload_n C 3 dX11_joins_80 rfl rfl ?_
      obtain ⟨v22, ev22, h⟩ := bs h
      refine r_iald C ev22 dX11_joins_81 ?_
      refine r_aload_n C 0 dX11_joins_82 rfl rfl ?_
      obtain ⟨v23, ev23, h⟩ := bs h
      refine r_getR C (c := 9) (r := (RX11, TX11, 38)) rfl 4 (by decide) rfl ev23 q1317 dX11_joins_83 ?_
      refine r_iload C 4 dX11_joins_86 rfl ?_
      obtain ⟨v24, ev24, h⟩ := bs h
      refine r_iald C ev24 dX11_joins_88 ?_
      refine r_iadd C dX11_joins_89 ?_
      refine r_bipush C dX11_joins_90 (by decide) ?_
      refine r_icmp_lt C dX11_joins_92 (tgt := 144) (by decide) (fun c25 => ?_) (fun c25 => ?_)
      · have h := it_ h c25
        exact w_X11_joins_b144 (fin := fin) C h hK
      · have h := ie_ h c25
        refine r_goto C dX11_joins_95 (tgt := 142) (by decide) ?_
        refine r_iconst C dX11_joins_142 ?_
        cases h
        exact r_zret C (Or.inl rfl) hK dX11_joins_143
  · have h := it_ h c1
    refine r_aload_n C 0 dX11_joins_5 rfl rfl ?_
    obtain ⟨v26, ev26, h⟩ := bs h
    refine r_getR C (c := 9) (r := (RX11, TX11, 38)) rfl 4 (by decide) rfl ev26 q1317 dX11_joins_6 ?_
    refine r_iload_n C 3 dX11_joins_9 rfl rfl ?_
    obtain ⟨v27, ev27, h⟩ := bs h
    refine r_iald C ev27 dX11_joins_10 ?_
    refine r_aload_n C 0 dX11_joins_11 rfl rfl ?_
    obtain ⟨v28, ev28, h⟩ := bs h
    refine r_getR C (c := 9) (r := (RX11, TX11, 38)) rfl 4 (by decide) rfl ev28 q1317 dX11_joins_12 ?_
    refine r_iload C 4 dX11_joins_15 rfl ?_
    obtain ⟨v29, ev29, h⟩ := bs h
    refine r_iald C ev29 dX11_joins_17 ?_
    refine r_icmp_eq C dX11_joins_18 (tgt := 23) (by decide) (fun c30 => ?_) (fun c30 => ?_)
    · have h := it_ h c30
      refine r_iconst C dX11_joins_23 ?_
      refine r_istore C [(5, vI 0), (0, vO a0), (1, vI x1), (2, vI x2), (3, vI x3), (4, vI x4)] dX11_joins_24 (by decide) rfl ?_
      refine r_sub [1, 4, 5, 0] rfl ?_
      exact w_X11_joins_l26 (fin := fin) C h hK
    · have h := ie_ h c30
      refine r_iconst C dX11_joins_21 ?_
      cases h
      exact r_zret C (Or.inl rfl) hK dX11_joins_22
theorem hdX11_joins : zhd yX11_joins 4 := by decide +kernel
theorem m_X11_joins {l : Launch} {D : va_G} {b0 : Nat} (hl : l.stackTraces = false) {a0 : Nat} {x1 : Int} {x2 : Int} {x3 : Int} {x4 : Int} {μ : Me} {w : Int × Me} (h : s_X11_joins a0 x1 x2 x3 x4 μ = some w) : MN l D b0 yX11_joins (ws_ yX11_joins cX11_joins 6 (some .boolean)) 6 [vO a0, vI x1, vI x2, vI x3, vI x4] μ (some (vI w.1)) w.2 :=
  MN.of hl (by decide +kernel) (Nat.le_of_ble_eq_true rfl) (fun Z C _ _ => w_X11_joins C h rfl)
noncomputable def s_X11_makes_b125 (a0 : Nat) (x1 : Int) (x2 : Int) (x3 : Int)  (μ : Me) : Option ((Int × Int × Me) ⊕ (Int × Me)) :=
  some (.inl (x2, (x3 + 1), μ))
theorem w_X11_makes_b125 {Z : Zt} {fin : Int × Me} {w : ((Int × Int × Me) ⊕ (Int × Me))} (C : CX Z yX11_makes cX11_makes (some .boolean) 7 6) {a0 : Nat} {x1 : Int} {x2 : Int} {x3 : Int}  {μ : Me} (h : s_X11_makes_b125 a0 x1 x2 x3 μ = some w) (hK : (Sum.elim (fun s : Int × Int × Me => WL Z (QN Z (some (vI fin.1)) fin.2) s.2.2 4 [(0, vO a0), (1, vI x1), (2, vI s.1), (3, vI s.2.1)] []) (fun r : Int × Me => r = fin)) w) : WL Z (QN Z (some (vI fin.1)) fin.2) μ 125 [(0, vO a0), (1, vI x1), (2, vI x2), (3, vI x3)] [] := by
  unfold s_X11_makes_b125 at h
  refine r_goto C dX11_makes_125 (tgt := 152) (by decide) ?_
  refine r_iinc C 3 [(3, vI (x3 + 1)), (0, vO a0), (1, vI x1), (2, vI x2)] dX11_makes_152 rfl (by decide) rfl ?_
  refine r_goto C dX11_makes_155 (tgt := 4) (by decide) ?_
  cases h
  refine r_sub [1, 2, 3, 0] rfl ?_
  exact hK
noncomputable def s_X11_makes_l83_st (a0 : Nat) (x1 : Int) (x2 : Int) (x3 : Int) (x5 : Int) (μ : Me) : Option ((Int × Me) ⊕ ((Int × Int × Me) ⊕ (Int × Me))) :=
  (gR μ 9 a0 4).bind fun v14 =>
  (aI μ 101 v14 (x2 - 1)).bind fun v15 =>
  (if w32 v15 < w32 x5 then
  (s_X11_makes_b125 a0 x1 x2 x3 μ).map Sum.inr
  else
  (ck μ 9 a0).bind fun _ =>
  (s_X11_of a0 (x2 - 1) x5 μ).bind fun q17 =>
  (ck q17.2 9 a0).bind fun _ =>
  (s_X11_less a0 0 q17.1 q17.2).bind fun q19 =>
  (ck q19.2 9 a0).bind fun _ =>
  (s_X11_put a0 (x2 - 1) x5 q19.1 q19.2).bind fun q21 =>
  some (.inl ((x5 + 1), q21)))
theorem w_X11_makes_l83_st {Z : Zt} {fin : Int × Me} {w : ((Int × Me) ⊕ ((Int × Int × Me) ⊕ (Int × Me)))} (C : CX Z yX11_makes cX11_makes (some .boolean) 7 6) {a0 : Nat} {x1 : Int} {x2 : Int} {x3 : Int} {x5 : Int} {μ : Me} (h : s_X11_makes_l83_st a0 x1 x2 x3 x5 μ = some w) (hK : (Sum.elim (fun s : Int × Me => WL Z (QN Z (some (vI fin.1)) fin.2) s.2 83 [(0, vO a0), (1, vI x1), (2, vI x2), (3, vI x3), (5, vI s.1)] []) (Sum.elim (fun s : Int × Int × Me => WL Z (QN Z (some (vI fin.1)) fin.2) s.2.2 4 [(0, vO a0), (1, vI x1), (2, vI s.1), (3, vI s.2.1)] []) (fun r : Int × Me => r = fin))) w) : WL Z (QN Z (some (vI fin.1)) fin.2) μ 83 [(0, vO a0), (1, vI x1), (2, vI x2), (3, vI x3), (5, vI x5)] [] := by
  unfold s_X11_makes_l83_st at h
  refine r_iload C 4 dX11_makes_83 rfl ?_
  refine r_aload_n C 0 dX11_makes_85 rfl rfl ?_
  obtain ⟨v14, ev14, h⟩ := bs h
  refine r_getR C (c := 9) (r := (RX11, TX11, 38)) rfl 4 (by decide) rfl ev14 q1317 dX11_makes_86 ?_
  refine r_iload_n C 2 dX11_makes_89 rfl rfl ?_
  refine r_iconst C dX11_makes_90 ?_
  refine r_isub C dX11_makes_91 ?_
  obtain ⟨v15, ev15, h⟩ := bs h
  refine r_iald C ev15 dX11_makes_92 ?_
  refine r_icmp_gt C dX11_makes_93 (tgt := 125) (by decide) (fun c16 => ?_) (fun c16 => ?_)
  · have h := it_ h c16
    obtain ⟨z, hz, ez⟩ := ms_ h; clear h; subst ez; have h := hz; clear hz
    refine r_sub [0, 1, 2, 3] rfl ?_
    exact w_X11_makes_b125 (fin := fin) C h hK
  · have h := ie_ h c16
    refine r_aload_n C 0 dX11_makes_96 rfl rfl ?_
    refine r_iload_n C 2 dX11_makes_97 rfl rfl ?_
    refine r_iconst C dX11_makes_98 ?_
    refine r_isub C dX11_makes_99 ?_
    refine r_iload C 4 dX11_makes_100 rfl ?_
    refine r_aload_n C 0 dX11_makes_102 rfl rfl ?_
    refine r_iconst C dX11_makes_103 ?_
    refine r_aload_n C 0 dX11_makes_104 rfl rfl ?_
    refine r_iload_n C 2 dX11_makes_105 rfl rfl ?_
    refine r_iconst C dX11_makes_106 ?_
    refine r_isub C dX11_makes_107 ?_
    refine r_iload C 4 dX11_makes_108 rfl ?_
    obtain ⟨u18, eu18, h⟩ := bs h
    obtain ⟨q17, eq17, h⟩ := bs h
    refine r_callV C (As := [vI (x2 - 1), vI x5]) (b := a0) (rest := [vI 0, vO a0, vI x5, vI (x2 - 1), vO a0]) (st1 := [vI q17.1, vI 0, vO a0, vI x5, vI (x2 - 1), vO a0]) (v := some (vI q17.1)) (r := (RX11, TX11, 38)) (ci := 9) rfl eu18 (m_X11_of C.tr eq17) (lw_V q1629 q1631 qs70 q133 q1632) rfl hdX11_of rfl rfl (Nat.le_of_ble_eq_true rfl) ⟨by decide, by decide⟩ dX11_makes_110 rfl ?_
    obtain ⟨u20, eu20, h⟩ := bs h
    obtain ⟨q19, eq19, h⟩ := bs h
    refine r_callV C (As := [vI 0, vI q17.1]) (b := a0) (rest := [vI x5, vI (x2 - 1), vO a0]) (st1 := [vI q19.1, vI x5, vI (x2 - 1), vO a0]) (v := some (vI q19.1)) (r := (RX11, TX11, 38)) (ci := 9) rfl eu20 (m_X11_less C.tr eq19) (lw_V q1545 q1547 qs55 q133 q1548) rfl hdX11_less rfl rfl (Nat.le_of_ble_eq_true rfl) ⟨by decide, by decide⟩ dX11_makes_113 rfl ?_
    obtain ⟨u22, eu22, h⟩ := bs h
    obtain ⟨q21, eq21, h⟩ := bs h
    refine r_callV C (As := [vI (x2 - 1), vI x5, vI q19.1]) (b := a0) (rest := []) (st1 := []) (v := none) (r := (RX11, TX11, 38)) (ci := 9) rfl eu22 (m_X11_put C.tr eq21) (lw_V q1621 q1623 qs68 q133 q1624) rfl hdX11_put rfl rfl (Nat.le_of_ble_eq_true rfl) ⟨by decide, by decide⟩ dX11_makes_116 rfl ?_
    refine r_iinc C 4 [(5, vI (x5 + 1)), (0, vO a0), (1, vI x1), (2, vI x2), (3, vI x3)] dX11_makes_119 rfl (by decide) rfl ?_
    refine r_goto C dX11_makes_122 (tgt := 83) (by decide) ?_
    cases h
    refine r_sub [1, 2, 3, 4, 0] rfl ?_
    exact hK
noncomputable def s_X11_makes_l83 (a0 : Nat) (x1 : Int) (x2 : Int) (x3 : Int) (x5 : Int) (μ : Me) : Option ((Int × Int × Me) ⊕ (Int × Me)) :=
  whileO (fun s : Int × Me => s_X11_makes_l83_st a0 x1 x2 x3 s.1 s.2) (x5, μ)
theorem e_X11_makes_l83 (a0 : Nat) (x1 : Int) (x2 : Int) (x3 : Int) (x5 : Int) (μ : Me) : s_X11_makes_l83 a0 x1 x2 x3 x5 μ = (s_X11_makes_l83_st a0 x1 x2 x3 x5 μ).bind fun x => x.elim (fun s : Int × Me => s_X11_makes_l83 a0 x1 x2 x3 s.1 s.2) some := whileO_eq _ _
theorem w_X11_makes_l83 {Z : Zt} {fin : Int × Me} {w : ((Int × Int × Me) ⊕ (Int × Me))} (C : CX Z yX11_makes cX11_makes (some .boolean) 7 6) {a0 : Nat} {x1 : Int} {x2 : Int} {x3 : Int} {x5 : Int} {μ : Me} (h : s_X11_makes_l83 a0 x1 x2 x3 x5 μ = some w) (hK : (Sum.elim (fun s : Int × Int × Me => WL Z (QN Z (some (vI fin.1)) fin.2) s.2.2 4 [(0, vO a0), (1, vI x1), (2, vI s.1), (3, vI s.2.1)] []) (fun r : Int × Me => r = fin)) w) : WL Z (QN Z (some (vI fin.1)) fin.2) μ 83 [(0, vO a0), (1, vI x1), (2, vI x2), (3, vI x3), (5, vI x5)] [] := by
  refine whileO_walk (w := w) (fun s : Int × Me => WL Z (QN Z (some (vI fin.1)) fin.2) s.2 83 [(0, vO a0), (1, vI x1), (2, vI x2), (3, vI x3), (5, vI s.1)] []) (fun s v h2 hi hr => ?_) (x5, μ) h
  refine w_X11_makes_l83_st (fin := fin) C h2 ?_
  cases v with
  | inl s2 => exact hi s2 rfl
  | inr r => have e := hr r rfl; subst e; exact hK
noncomputable def s_X11_makes_l4_st (a0 : Nat) (x1 : Int) (x2 : Int) (x3 : Int) (μ : Me) : Option ((Int × Int × Me) ⊕ (Int × Me)) :=
  (ck μ 9 a0).bind fun _ =>
  (s_X11_stepsOf a0 x1 μ).bind fun q1 =>
  (if w32 q1.1 ≤ w32 x3 then
  some (.inr (1, q1.2))
  else
  (ck q1.2 9 a0).bind fun _ =>
  (s_X11_stepOf a0 x1 x3 q1.2).bind fun q4 =>
  (if w32 q4.1 = 0 then
  (ck q4.2 9 a0).bind fun _ =>
  (s_X11_copies a0 44 x2 q4.2).bind fun q31 =>
  some (.inl ((x2 + 1), (x3 + 1), q31))
  else
  (if w32 q4.1 = w32 1 then
  (ck q4.2 9 a0).bind fun _ =>
  (s_X11_clears a0 x2 0 q4.2).bind fun q23 =>
  (ck q23 9 a0).bind fun _ =>
  (s_X11_toldBy a0 x1 x3 q23).bind fun q25 =>
  (ck q25.2 9 a0).bind fun _ =>
  (s_X11_mod a0 (w32 q25.1) q25.2).bind fun q27 =>
  (ck q27.2 9 a0).bind fun _ =>
  (s_X11_put a0 x2 0 q27.1 q27.2).bind fun q29 =>
  some (.inl ((x2 + 1), (x3 + 1), q29))
  else
  (if w32 q4.1 = w32 5 then
  s_X11_makes_l83 a0 x1 x2 x3 0 q4.2
  else
  (ck q4.2 9 a0).bind fun _ =>
  (s_X11_toldBy a0 x1 x3 q4.2).bind fun q9 =>
  (ck q9.2 9 a0).bind fun _ =>
  (s_X11_joins a0 q4.1 q9.1 ((x2 + (-1)) - 1) (x2 + (-1)) q9.2).bind fun q11 =>
  (if w32 q11.1 = 0 then
  some (.inr (0, q11.2))
  else
  some (.inl ((x2 + (-1)), (x3 + 1), q11.2)))))))
theorem w_X11_makes_l4_st {Z : Zt} {fin : Int × Me} {w : ((Int × Int × Me) ⊕ (Int × Me))} (C : CX Z yX11_makes cX11_makes (some .boolean) 7 6) {a0 : Nat} {x1 : Int} {x2 : Int} {x3 : Int} {μ : Me} (h : s_X11_makes_l4_st a0 x1 x2 x3 μ = some w) (hK : (Sum.elim (fun s : Int × Int × Me => WL Z (QN Z (some (vI fin.1)) fin.2) s.2.2 4 [(0, vO a0), (1, vI x1), (2, vI s.1), (3, vI s.2.1)] []) (fun r : Int × Me => r = fin)) w) : WL Z (QN Z (some (vI fin.1)) fin.2) μ 4 [(0, vO a0), (1, vI x1), (2, vI x2), (3, vI x3)] [] := by
  unfold s_X11_makes_l4_st at h
  refine r_iload_n C 3 dX11_makes_4 rfl rfl ?_
  refine r_aload_n C 0 dX11_makes_5 rfl rfl ?_
  refine r_iload_n C 1 dX11_makes_6 rfl rfl ?_
  obtain ⟨u2, eu2, h⟩ := bs h
  obtain ⟨q1, eq1, h⟩ := bs h
  refine r_callV C (As := [vI x1]) (b := a0) (rest := [vI x3]) (st1 := [vI q1.1, vI x3]) (v := some (vI q1.1)) (r := (RX11, TX11, 38)) (ci := 9) rfl eu2 (m_X11_stepsOf C.tr eq1) (lw_V q1681 q1683 qs79 q133 q1684) rfl hdX11_stepsOf rfl rfl (Nat.le_of_ble_eq_true rfl) ⟨by decide, by decide⟩ dX11_makes_7 rfl ?_
  refine r_icmp_ge C dX11_makes_10 (tgt := 158) (by decide) (fun c3 => ?_) (fun c3 => ?_)
  · have h := it_ h c3
    refine r_iconst C dX11_makes_158 ?_
    cases h
    exact r_zret C (Or.inr rfl) hK dX11_makes_159
  · have h := ie_ h c3
    refine r_aload_n C 0 dX11_makes_13 rfl rfl ?_
    refine r_iload_n C 1 dX11_makes_14 rfl rfl ?_
    refine r_iload_n C 3 dX11_makes_15 rfl rfl ?_
    obtain ⟨u5, eu5, h⟩ := bs h
    obtain ⟨q4, eq4, h⟩ := bs h
    refine r_callV C (As := [vI x1, vI x3]) (b := a0) (rest := []) (st1 := [vI q4.1]) (v := some (vI q4.1)) (r := (RX11, TX11, 38)) (ci := 9) rfl eu5 (m_X11_stepOf C.tr eq4) (lw_V q1685 q1687 qs80 q133 q1688) rfl hdX11_stepOf rfl rfl (Nat.le_of_ble_eq_true rfl) ⟨by decide, by decide⟩ dX11_makes_16 rfl ?_
    refine r_istore C [(4, vI q4.1), (0, vO a0), (1, vI x1), (2, vI x2), (3, vI x3)] dX11_makes_19 (by decide) rfl ?_
    refine r_iload C 0 dX11_makes_21 rfl ?_
    refine r_if_ne C dX11_makes_23 (tgt := 39) (by decide) (fun c6 => ?_) (fun c6 => ?_)
    · have h := ie_ h c6
      refine r_iload C 0 dX11_makes_39 rfl ?_
      refine r_iconst C dX11_makes_41 ?_
      refine r_icmp_ne C dX11_makes_42 (tgt := 74) (by decide) (fun c7 => ?_) (fun c7 => ?_)
      · have h := ie_ h c7
        refine r_iload C 0 dX11_makes_74 rfl ?_
        refine r_iconst C dX11_makes_76 ?_
        refine r_icmp_ne C dX11_makes_77 (tgt := 128) (by decide) (fun c8 => ?_) (fun c8 => ?_)
        · have h := ie_ h c8
          refine r_iinc C 3 [(2, vI (x2 + (-1))), (4, vI q4.1), (0, vO a0), (1, vI x1), (3, vI x3)] dX11_makes_128 rfl (by decide) rfl ?_
          refine r_aload_n C 2 dX11_makes_131 rfl rfl ?_
          refine r_iload C 1 dX11_makes_132 rfl ?_
          refine r_aload_n C 2 dX11_makes_134 rfl rfl ?_
          refine r_iload_n C 3 dX11_makes_135 rfl rfl ?_
          refine r_iload_n C 4 dX11_makes_136 rfl rfl ?_
          obtain ⟨u10, eu10, h⟩ := bs h
          obtain ⟨q9, eq9, h⟩ := bs h
          refine r_callV C (As := [vI x1, vI x3]) (b := a0) (rest := [vI q4.1, vO a0]) (st1 := [vI q9.1, vI q4.1, vO a0]) (v := some (vI q9.1)) (r := (RX11, TX11, 38)) (ci := 9) rfl eu10 (m_X11_toldBy C.tr eq9) (lw_V q1693 q1695 qs82 q133 q1696) rfl hdX11_toldBy rfl rfl (Nat.le_of_ble_eq_true rfl) ⟨by decide, by decide⟩ dX11_makes_137 rfl ?_
          refine r_iload_n C 0 dX11_makes_140 rfl rfl ?_
          refine r_iconst C dX11_makes_141 ?_
          refine r_isub C dX11_makes_142 ?_
          refine r_iload_n C 0 dX11_makes_143 rfl rfl ?_
          obtain ⟨u12, eu12, h⟩ := bs h
          obtain ⟨q11, eq11, h⟩ := bs h
          refine r_callV C (As := [vI q4.1, vI q9.1, vI ((x2 + (-1)) - 1), vI (x2 + (-1))]) (b := a0) (rest := []) (st1 := [vI q11.1]) (v := some (vI q11.1)) (r := (RX11, TX11, 38)) (ci := 9) rfl eu12 (m_X11_joins C.tr eq11) (lw_V q1697 q1699 qs83 q133 q1700) rfl hdX11_joins rfl rfl (Nat.le_of_ble_eq_true rfl) ⟨by decide, by decide⟩ dX11_makes_144 rfl ?_
          refine r_if_ne C dX11_makes_147 (tgt := 152) (by decide) (fun c13 => ?_) (fun c13 => ?_)
          · have h := ie_ h c13
            refine r_iinc C 4 [(3, vI (x3 + 1)), (2, vI (x2 + (-1))), (4, vI q4.1), (0, vO a0), (1, vI x1)] dX11_makes_152 rfl (by decide) rfl ?_
            refine r_goto C dX11_makes_155 (tgt := 4) (by decide) ?_
            cases h
            refine r_sub [3, 4, 1, 0] rfl ?_
            exact hK
          · have h := it_ h c13
            refine r_iconst C dX11_makes_150 ?_
            cases h
            exact r_zret C (Or.inl rfl) hK dX11_makes_151
        · have h := it_ h c8
          refine r_iconst C dX11_makes_80 ?_
          refine r_istore C [(5, vI 0), (4, vI q4.1), (0, vO a0), (1, vI x1), (2, vI x2), (3, vI x3)] dX11_makes_81 (by decide) rfl ?_
          refine r_sub [2, 3, 4, 5, 0] rfl ?_
          exact w_X11_makes_l83 (fin := fin) C h hK
      · have h := it_ h c7
        refine r_aload_n C 1 dX11_makes_45 rfl rfl ?_
        refine r_iload_n C 3 dX11_makes_46 rfl rfl ?_
        refine r_iconst C dX11_makes_47 ?_
        obtain ⟨u24, eu24, h⟩ := bs h
        obtain ⟨q23, eq23, h⟩ := bs h
        refine r_callV C (As := [vI x2, vI 0]) (b := a0) (rest := []) (st1 := []) (v := none) (r := (RX11, TX11, 38)) (ci := 9) rfl eu24 (m_X11_clears C.tr eq23) (lw_V q1645 q1647 qs73 q133 q1648) rfl hdX11_clears rfl rfl (Nat.le_of_ble_eq_true rfl) ⟨by decide, by decide⟩ dX11_makes_48 rfl ?_
        refine r_aload_n C 1 dX11_makes_51 rfl rfl ?_
        refine r_iload_n C 3 dX11_makes_52 rfl rfl ?_
        refine r_iconst C dX11_makes_53 ?_
        refine r_aload_n C 1 dX11_makes_54 rfl rfl ?_
        refine r_aload_n C 1 dX11_makes_55 rfl rfl ?_
        refine r_iload_n C 2 dX11_makes_56 rfl rfl ?_
        refine r_iload_n C 4 dX11_makes_57 rfl rfl ?_
        obtain ⟨u26, eu26, h⟩ := bs h
        obtain ⟨q25, eq25, h⟩ := bs h
        refine r_callV C (As := [vI x1, vI x3]) (b := a0) (rest := [vO a0, vI 0, vI x2, vO a0]) (st1 := [vI q25.1, vO a0, vI 0, vI x2, vO a0]) (v := some (vI q25.1)) (r := (RX11, TX11, 38)) (ci := 9) rfl eu26 (m_X11_toldBy C.tr eq25) (lw_V q1693 q1695 qs82 q133 q1696) rfl hdX11_toldBy rfl rfl (Nat.le_of_ble_eq_true rfl) ⟨by decide, by decide⟩ dX11_makes_58 rfl ?_
        refine r_i2l C dX11_makes_61 ?_
        obtain ⟨u28, eu28, h⟩ := bs h
        obtain ⟨q27, eq27, h⟩ := bs h
        refine r_callV C (As := [vJ (w32 q25.1)]) (b := a0) (rest := [vI 0, vI x2, vO a0]) (st1 := [vI q27.1, vI 0, vI x2, vO a0]) (v := some (vI q27.1)) (r := (RX11, TX11, 38)) (ci := 9) rfl eu28 (m_X11_mod C.tr eq27) (lw_V q1518 q1520 qs50 q133 q1521) rfl hdX11_mod rfl rfl (Nat.le_of_ble_eq_true rfl) ⟨by decide, by decide⟩ dX11_makes_62 rfl ?_
        obtain ⟨u30, eu30, h⟩ := bs h
        obtain ⟨q29, eq29, h⟩ := bs h
        refine r_callV C (As := [vI x2, vI 0, vI q27.1]) (b := a0) (rest := []) (st1 := []) (v := none) (r := (RX11, TX11, 38)) (ci := 9) rfl eu30 (m_X11_put C.tr eq29) (lw_V q1621 q1623 qs68 q133 q1624) rfl hdX11_put rfl rfl (Nat.le_of_ble_eq_true rfl) ⟨by decide, by decide⟩ dX11_makes_65 rfl ?_
        refine r_iinc C 3 [(2, vI (x2 + 1)), (4, vI q4.1), (0, vO a0), (1, vI x1), (3, vI x3)] dX11_makes_68 rfl (by decide) rfl ?_
        refine r_goto C dX11_makes_71 (tgt := 152) (by decide) ?_
        refine r_iinc C 4 [(3, vI (x3 + 1)), (2, vI (x2 + 1)), (4, vI q4.1), (0, vO a0), (1, vI x1)] dX11_makes_152 rfl (by decide) rfl ?_
        refine r_goto C dX11_makes_155 (tgt := 4) (by decide) ?_
        cases h
        refine r_sub [3, 4, 1, 0] rfl ?_
        exact hK
    · have h := it_ h c6
      refine r_aload_n C 1 dX11_makes_26 rfl rfl ?_
      refine r_bipush C dX11_makes_27 (by decide) ?_
      refine r_iload_n C 3 dX11_makes_29 rfl rfl ?_
      obtain ⟨u32, eu32, h⟩ := bs h
      obtain ⟨q31, eq31, h⟩ := bs h
      refine r_callV C (As := [vI 44, vI x2]) (b := a0) (rest := []) (st1 := []) (v := none) (r := (RX11, TX11, 38)) (ci := 9) rfl eu32 (m_X11_copies C.tr eq31) (lw_V q1689 q1691 qs81 q133 q1692) rfl hdX11_copies rfl rfl (Nat.le_of_ble_eq_true rfl) ⟨by decide, by decide⟩ dX11_makes_30 rfl ?_
      refine r_iinc C 3 [(2, vI (x2 + 1)), (4, vI q4.1), (0, vO a0), (1, vI x1), (3, vI x3)] dX11_makes_33 rfl (by decide) rfl ?_
      refine r_goto C dX11_makes_36 (tgt := 152) (by decide) ?_
      refine r_iinc C 4 [(3, vI (x3 + 1)), (2, vI (x2 + 1)), (4, vI q4.1), (0, vO a0), (1, vI x1)] dX11_makes_152 rfl (by decide) rfl ?_
      refine r_goto C dX11_makes_155 (tgt := 4) (by decide) ?_
      cases h
      refine r_sub [3, 4, 1, 0] rfl ?_
      exact hK
noncomputable def s_X11_makes_l4 (a0 : Nat) (x1 : Int) (x2 : Int) (x3 : Int) (μ : Me) : Option (Int × Me) :=
  whileO (fun s : Int × Int × Me => s_X11_makes_l4_st a0 x1 s.1 s.2.1 s.2.2) (x2, x3, μ)
theorem e_X11_makes_l4 (a0 : Nat) (x1 : Int) (x2 : Int) (x3 : Int) (μ : Me) : s_X11_makes_l4 a0 x1 x2 x3 μ = (s_X11_makes_l4_st a0 x1 x2 x3 μ).bind fun x => x.elim (fun s : Int × Int × Me => s_X11_makes_l4 a0 x1 s.1 s.2.1 s.2.2) some := whileO_eq _ _
theorem w_X11_makes_l4 {Z : Zt} {fin : Int × Me} {w : (Int × Me)} (C : CX Z yX11_makes cX11_makes (some .boolean) 7 6) {a0 : Nat} {x1 : Int} {x2 : Int} {x3 : Int} {μ : Me} (h : s_X11_makes_l4 a0 x1 x2 x3 μ = some w) (hK : (fun r : Int × Me => r = fin) w) : WL Z (QN Z (some (vI fin.1)) fin.2) μ 4 [(0, vO a0), (1, vI x1), (2, vI x2), (3, vI x3)] [] := by
  refine whileO_walk (w := w) (fun s : Int × Int × Me => WL Z (QN Z (some (vI fin.1)) fin.2) s.2.2 4 [(0, vO a0), (1, vI x1), (2, vI s.1), (3, vI s.2.1)] []) (fun s v h2 hi hr => ?_) (x2, x3, μ) h
  refine w_X11_makes_l4_st (fin := fin) C h2 ?_
  cases v with
  | inl s2 => exact hi s2 rfl
  | inr r => have e := hr r rfl; subst e; exact hK
noncomputable def s_X11_makes (a0 : Nat) (x1 : Int) (μ : Me) : Option (Int × Me) :=
  s_X11_makes_l4 a0 x1 0 0 μ
theorem w_X11_makes {Z : Zt} {fin : Int × Me} {w : Int × Me} (C : CX Z yX11_makes cX11_makes (some .boolean) 7 6) {a0 : Nat} {x1 : Int} {μ : Me} (h : s_X11_makes a0 x1 μ = some w) (hK : w = fin) : WL Z (QN Z (some (vI fin.1)) fin.2) μ 0 [(0, vO a0), (1, vI x1)] [] := by
  unfold s_X11_makes at h
  refine r_iconst C dX11_makes_0 ?_
  refine r_istore_n C [(2, vI 0), (0, vO a0), (1, vI x1)] dX11_makes_1 rfl (by decide) rfl ?_
  refine r_iconst C dX11_makes_2 ?_
  refine r_istore_n C [(3, vI 0), (2, vI 0), (0, vO a0), (1, vI x1)] dX11_makes_3 rfl (by decide) rfl ?_
  refine r_sub [2, 3, 1, 0] rfl ?_
  exact w_X11_makes_l4 (fin := fin) C h hK
theorem hdX11_makes : zhd yX11_makes 1 := by decide +kernel
theorem m_X11_makes {l : Launch} {D : va_G} {b0 : Nat} (hl : l.stackTraces = false) {a0 : Nat} {x1 : Int} {μ : Me} {w : Int × Me} (h : s_X11_makes a0 x1 μ = some w) : MN l D b0 yX11_makes (ws_ yX11_makes cX11_makes 6 (some .boolean)) 7 [vO a0, vI x1] μ (some (vI w.1)) w.2 :=
  MN.of hl (by decide +kernel) (Nat.le_of_ble_eq_true rfl) (fun Z C _ _ => w_X11_makes C h rfl)
noncomputable def s_X11_value_b27 (a0 : Nat) (x1 : Int) (x2 : Int) (x3 : Int) (t0 : Int) (t1 : Nat) (μ : Me) : Option (Int × Me) :=
  (ck μ 9 t1).bind fun _ =>
  (s_X11_throwsIf t1 t0 1 μ).bind fun q5 =>
  (if w32 q5.1 = 0 then
  (ck q5.2 9 a0).bind fun _ =>
  (s_X11_takes a0 44 x2 q5.2).bind fun q8 =>
  (ck q8 9 a0).bind fun _ =>
  (s_X11_makes a0 x1 q8).bind fun q10 =>
  (if w32 q10.1 = 0 then
  some ((-2), q10.2)
  else
  (if w32 x3 = w32 (-1) then
  (gR q10.2 9 a0 4).bind fun v20 =>
  (aI q10.2 101 v20 0).bind fun v21 =>
  some (v21, q10.2)
  else
  (gR q10.2 9 a0 4).bind fun v14 =>
  (aI q10.2 101 v14 0).bind fun v15 =>
  (s_X11_in x3 0 v15 q10.2).bind fun q16 =>
  (if w32 q16.1 = 0 then
  some ((-1), q16.2)
  else
  (ck q16.2 9 a0).bind fun _ =>
  (s_X11_of a0 0 x3 q16.2).bind fun q18 =>
  some (q18.1, q18.2))))
  else
  some (0, q5.2))
theorem w_X11_value_b27 {Z : Zt} {fin : Int × Me} {w : (Int × Me)} (C : CX Z yX11_value cX11_value (some .int) 8 4) {a0 : Nat} {x1 : Int} {x2 : Int} {x3 : Int} {t0 : Int} {t1 : Nat} {μ : Me} (h : s_X11_value_b27 a0 x1 x2 x3 t0 t1 μ = some w) (hK : (fun r : Int × Me => r = fin) w) : WL Z (QN Z (some (vI fin.1)) fin.2) μ 27 [(0, vO a0), (1, vI x1), (2, vI x2), (3, vI x3)] [vI t0, vO t1] := by
  unfold s_X11_value_b27 at h
  refine r_iconst C dX11_value_27 ?_
  obtain ⟨u6, eu6, h⟩ := bs h
  obtain ⟨q5, eq5, h⟩ := bs h
  refine r_callV C (As := [vI t0, vI 1]) (b := t1) (rest := []) (st1 := [vI q5.1]) (v := some (vI q5.1)) (r := (RX11, TX11, 38)) (ci := 9) rfl eu6 (m_X11_throwsIf C.tr eq5) (lw_V q1500 q1502 qs49 q133 q1503) rfl hdX11_throwsIf rfl rfl (Nat.le_of_ble_eq_true rfl) ⟨by decide, by decide⟩ dX11_value_28 rfl ?_
  refine r_if_eq C dX11_value_31 (tgt := 36) (by decide) (fun c7 => ?_) (fun c7 => ?_)
  · have h := it_ h c7
    refine r_aload_n C 0 dX11_value_36 rfl rfl ?_
    refine r_bipush C dX11_value_37 (by decide) ?_
    refine r_iload_n C 2 dX11_value_39 rfl rfl ?_
    obtain ⟨u9, eu9, h⟩ := bs h
    obtain ⟨q8, eq8, h⟩ := bs h
    refine r_callV C (As := [vI 44, vI x2]) (b := a0) (rest := []) (st1 := []) (v := none) (r := (RX11, TX11, 38)) (ci := 9) rfl eu9 (m_X11_takes C.tr eq8) (lw_V q1617 q1619 qs67 q133 q1620) rfl hdX11_takes rfl rfl (Nat.le_of_ble_eq_true rfl) ⟨by decide, by decide⟩ dX11_value_40 rfl ?_
    refine r_aload_n C 0 dX11_value_43 rfl rfl ?_
    refine r_iload_n C 1 dX11_value_44 rfl rfl ?_
    obtain ⟨u11, eu11, h⟩ := bs h
    obtain ⟨q10, eq10, h⟩ := bs h
    refine r_callV C (As := [vI x1]) (b := a0) (rest := []) (st1 := [vI q10.1]) (v := some (vI q10.1)) (r := (RX11, TX11, 38)) (ci := 9) rfl eu11 (m_X11_makes C.tr eq10) (lw_V q1677 q1679 qs78 q133 q1680) rfl hdX11_makes rfl rfl (Nat.le_of_ble_eq_true rfl) ⟨by decide, by decide⟩ dX11_value_45 rfl ?_
    refine r_if_ne C dX11_value_48 (tgt := 54) (by decide) (fun c12 => ?_) (fun c12 => ?_)
    · have h := ie_ h c12
      refine r_iload_n C 3 dX11_value_54 rfl rfl ?_
      refine r_iconst C dX11_value_55 ?_
      refine r_icmp_ne C dX11_value_56 (tgt := 68) (by decide) (fun c13 => ?_) (fun c13 => ?_)
      · have h := ie_ h c13
        refine r_iload_n C 3 dX11_value_68 rfl rfl ?_
        refine r_iconst C dX11_value_69 ?_
        refine r_aload_n C 0 dX11_value_70 rfl rfl ?_
        obtain ⟨v14, ev14, h⟩ := bs h
        refine r_getR C (c := 9) (r := (RX11, TX11, 38)) rfl 4 (by decide) rfl ev14 q1317 dX11_value_71 ?_
        refine r_iconst C dX11_value_74 ?_
        obtain ⟨v15, ev15, h⟩ := bs h
        refine r_iald C ev15 dX11_value_75 ?_
        obtain ⟨q16, eq16, h⟩ := bs h
        refine r_callS C (As := [vI x3, vI 0, vI v15]) (rest := []) (st1 := [vI q16.1]) (v := some (vI q16.1)) (m_X11_in C.tr eq16) (lw_S q1512 q1513 q133 q1514) hdX11_in rfl rfl (Nat.le_of_ble_eq_true rfl) ⟨by decide, by decide⟩ dX11_value_76 rfl ?_
        refine r_if_eq C dX11_value_79 (tgt := 91) (by decide) (fun c17 => ?_) (fun c17 => ?_)
        · have h := it_ h c17
          refine r_iconst C dX11_value_91 ?_
          cases h
          exact r_iret C hK dX11_value_92
        · have h := ie_ h c17
          refine r_aload_n C 0 dX11_value_82 rfl rfl ?_
          refine r_iconst C dX11_value_83 ?_
          refine r_iload_n C 3 dX11_value_84 rfl rfl ?_
          obtain ⟨u19, eu19, h⟩ := bs h
          obtain ⟨q18, eq18, h⟩ := bs h
          refine r_callV C (As := [vI 0, vI x3]) (b := a0) (rest := []) (st1 := [vI q18.1]) (v := some (vI q18.1)) (r := (RX11, TX11, 38)) (ci := 9) rfl eu19 (m_X11_of C.tr eq18) (lw_V q1629 q1631 qs70 q133 q1632) rfl hdX11_of rfl rfl (Nat.le_of_ble_eq_true rfl) ⟨by decide, by decide⟩ dX11_value_85 rfl ?_
          refine r_goto C dX11_value_88 (tgt := 92) (by decide) ?_
          cases h
          exact r_iret C hK dX11_value_92
      · have h := it_ h c13
        refine r_aload_n C 0 dX11_value_59 rfl rfl ?_
        obtain ⟨v20, ev20, h⟩ := bs h
        refine r_getR C (c := 9) (r := (RX11, TX11, 38)) rfl 4 (by decide) rfl ev20 q1317 dX11_value_60 ?_
        refine r_iconst C dX11_value_63 ?_
        obtain ⟨v21, ev21, h⟩ := bs h
        refine r_iald C ev21 dX11_value_64 ?_
        refine r_goto C dX11_value_65 (tgt := 92) (by decide) ?_
        cases h
        exact r_iret C hK dX11_value_92
    · have h := it_ h c12
      refine r_bipush C dX11_value_51 (by decide) ?_
      cases h
      exact r_iret C hK dX11_value_53
  · have h := ie_ h c7
    refine r_iconst C dX11_value_34 ?_
    cases h
    exact r_iret C hK dX11_value_35
noncomputable def s_X11_value_b22 (a0 : Nat) (x1 : Int) (x2 : Int) (x3 : Int) (t0 : Nat) (μ : Me) : Option (Int × Me) :=
  s_X11_value_b27 a0 x1 x2 x3 1 t0 μ
theorem w_X11_value_b22 {Z : Zt} {fin : Int × Me} {w : (Int × Me)} (C : CX Z yX11_value cX11_value (some .int) 8 4) {a0 : Nat} {x1 : Int} {x2 : Int} {x3 : Int} {t0 : Nat} {μ : Me} (h : s_X11_value_b22 a0 x1 x2 x3 t0 μ = some w) (hK : (fun r : Int × Me => r = fin) w) : WL Z (QN Z (some (vI fin.1)) fin.2) μ 22 [(0, vO a0), (1, vI x1), (2, vI x2), (3, vI x3)] [vO t0] := by
  unfold s_X11_value_b22 at h
  refine r_iconst C dX11_value_22 ?_
  refine r_goto C dX11_value_23 (tgt := 27) (by decide) ?_
  exact w_X11_value_b27 (fin := fin) C h hK
noncomputable def s_X11_value (a0 : Nat) (x1 : Int) (x2 : Int) (x3 : Int) (μ : Me) : Option (Int × Me) :=
  (pI μ 9 a0 0 0).bind fun m1 =>
  (ck m1 9 a0).bind fun _ =>
  (s_X11_noSigns a0 x1 m1).bind fun q2 =>
  (if w32 q2.1 = 0 then
  (ck q2.2 9 a0).bind fun _ =>
  (s_X11_noForm a0 x2 q2.2).bind fun q22 =>
  (if w32 q22.1 = 0 then
  s_X11_value_b27 a0 x1 x2 x3 0 a0 q22.2
  else
  s_X11_value_b22 a0 x1 x2 x3 a0 q22.2)
  else
  s_X11_value_b22 a0 x1 x2 x3 a0 q2.2)
theorem w_X11_value {Z : Zt} {fin : Int × Me} {w : Int × Me} (C : CX Z yX11_value cX11_value (some .int) 8 4) {a0 : Nat} {x1 : Int} {x2 : Int} {x3 : Int} {μ : Me} (h : s_X11_value a0 x1 x2 x3 μ = some w) (hK : w = fin) : WL Z (QN Z (some (vI fin.1)) fin.2) μ 0 [(0, vO a0), (1, vI x1), (2, vI x2), (3, vI x3)] [] := by
  unfold s_X11_value at h
  refine r_aload_n C 0 dX11_value_0 rfl rfl ?_
  refine r_iconst C dX11_value_1 ?_
  obtain ⟨m1, em1, h⟩ := bs h
  refine r_putI C (c := 9) (r := (RX11, TX11, 38)) rfl 0 (by decide) rfl ⟨rfl, rfl⟩ rfl em1 q1313 dX11_value_2 ?_
  refine r_aload_n C 0 dX11_value_5 rfl rfl ?_
  refine r_aload_n C 0 dX11_value_6 rfl rfl ?_
  refine r_iload_n C 1 dX11_value_7 rfl rfl ?_
  obtain ⟨u3, eu3, h⟩ := bs h
  obtain ⟨q2, eq2, h⟩ := bs h
  refine r_callV C (As := [vI x1]) (b := a0) (rest := [vO a0]) (st1 := [vI q2.1, vO a0]) (v := some (vI q2.1)) (r := (RX11, TX11, 38)) (ci := 9) rfl eu3 (m_X11_noSigns C.tr eq2) (lw_V q1673 q1675 qs77 q133 q1676) rfl hdX11_noSigns rfl rfl (Nat.le_of_ble_eq_true rfl) ⟨by decide, by decide⟩ dX11_value_8 rfl ?_
  refine r_if_ne C dX11_value_11 (tgt := 22) (by decide) (fun c4 => ?_) (fun c4 => ?_)
  · have h := ie_ h c4
    exact w_X11_value_b22 (fin := fin) C h hK
  · have h := it_ h c4
    refine r_aload_n C 0 dX11_value_14 rfl rfl ?_
    refine r_iload_n C 2 dX11_value_15 rfl rfl ?_
    obtain ⟨u23, eu23, h⟩ := bs h
    obtain ⟨q22, eq22, h⟩ := bs h
    refine r_callV C (As := [vI x2]) (b := a0) (rest := [vO a0]) (st1 := [vI q22.1, vO a0]) (v := some (vI q22.1)) (r := (RX11, TX11, 38)) (ci := 9) rfl eu23 (m_X11_noForm C.tr eq22) (lw_V q1601 q1603 qs64 q133 q1604) rfl hdX11_noForm rfl rfl (Nat.le_of_ble_eq_true rfl) ⟨by decide, by decide⟩ dX11_value_16 rfl ?_
    refine r_if_eq C dX11_value_19 (tgt := 26) (by decide) (fun c24 => ?_) (fun c24 => ?_)
    · have h := it_ h c24
      refine r_iconst C dX11_value_26 ?_
      exact w_X11_value_b27 (fin := fin) C h hK
    · have h := ie_ h c24
      exact w_X11_value_b22 (fin := fin) C h hK
theorem hdX11_value : zhd yX11_value 3 := by decide +kernel
theorem m_X11_value {l : Launch} {D : va_G} {b0 : Nat} (hl : l.stackTraces = false) {a0 : Nat} {x1 : Int} {x2 : Int} {x3 : Int} {μ : Me} {w : Int × Me} (h : s_X11_value a0 x1 x2 x3 μ = some w) : MN l D b0 yX11_value (ws_ yX11_value cX11_value 4 (some .int)) 8 [vO a0, vI x1, vI x2, vI x3] μ (some (vI w.1)) w.2 :=
  MN.of hl (by decide +kernel) (Nat.le_of_ble_eq_true rfl) (fun Z C _ _ => w_X11_value C h rfl)
noncomputable def s_X11_rankOf_b174 (a0 : Nat)  (μ : Me) : Option (Int × Me) :=
  (gR μ 9 a0 20).bind fun v4 =>
  (aI μ 101 v4 0).bind fun v5 =>
  some (v5, μ)
theorem w_X11_rankOf_b174 {Z : Zt} {fin : Int × Me} {w : (Int × Me)} (C : CX Z yX11_rankOf cX11_rankOf (some .int) 2 9) {a0 : Nat}  {μ : Me} (h : s_X11_rankOf_b174 a0 μ = some w) (hK : (fun r : Int × Me => r = fin) w) : WL Z (QN Z (some (vI fin.1)) fin.2) μ 174 [(0, vO a0)] [] := by
  unfold s_X11_rankOf_b174 at h
  refine r_aload_n C 0 dX11_rankOf_174 rfl rfl ?_
  obtain ⟨v4, ev4, h⟩ := bs h
  refine r_getR C (c := 9) (r := (RX11, TX11, 38)) rfl 20 (by decide) rfl ev4 q1333 dX11_rankOf_175 ?_
  refine r_iconst C dX11_rankOf_178 ?_
  obtain ⟨v5, ev5, h⟩ := bs h
  refine r_iald C ev5 dX11_rankOf_179 ?_
  cases h
  exact r_iret C hK dX11_rankOf_180
noncomputable def s_X11_rankOf_b111 (a0 : Nat) (x1 : Int) (x2 : Int) (x3 : Int) (x4 : Int) (x5 : Int) (x6 : Int) (x7 : Int) (t0 : Int) (μ : Me) : Option ((Int × Int × Me) ⊕ (Int × Me)) :=
  (gR μ 9 a0 20).bind fun v15 =>
  (if w32 t0 = 0 then
  (if w32 x5 = w32 2 then
  (uI μ v15 (x3 - 1) x6).bind fun m25 =>
  some (.inl (x3, (x4 + 1), m25))
  else
  (if w32 x2 = 0 then
  (uI μ v15 (x3 - 1) ((x6 + x7) + 0)).bind fun m19 =>
  some (.inl (x3, (x4 + 1), m19))
  else
  (if w32 x5 = w32 4 then
  (ck μ 9 a0).bind fun _ =>
  (s_X11_toldBy a0 x1 x4 μ).bind fun q22 =>
  (uI q22.2 v15 (x3 - 1) ((x6 + x7) + q22.1)).bind fun m24 =>
  some (.inl (x3, (x4 + 1), m24))
  else
  (uI μ v15 (x3 - 1) ((x6 + x7) + 0)).bind fun m21 =>
  some (.inl (x3, (x4 + 1), m21)))))
  else
  (uI μ v15 (x3 - 1) (-1)).bind fun m26 =>
  some (.inl (x3, (x4 + 1), m26)))
theorem w_X11_rankOf_b111 {Z : Zt} {fin : Int × Me} {w : ((Int × Int × Me) ⊕ (Int × Me))} (C : CX Z yX11_rankOf cX11_rankOf (some .int) 2 9) {a0 : Nat} {x1 : Int} {x2 : Int} {x3 : Int} {x4 : Int} {x5 : Int} {x6 : Int} {x7 : Int} {t0 : Int} {μ : Me} (h : s_X11_rankOf_b111 a0 x1 x2 x3 x4 x5 x6 x7 t0 μ = some w) (hK : (Sum.elim (fun s : Int × Int × Me => WL Z (QN Z (some (vI fin.1)) fin.2) s.2.2 5 [(0, vO a0), (1, vI x1), (2, vI x2), (3, vI s.1), (4, vI s.2.1)] []) (fun r : Int × Me => r = fin)) w) : WL Z (QN Z (some (vI fin.1)) fin.2) μ 111 [(0, vO a0), (1, vI x1), (2, vI x2), (3, vI x3), (4, vI x4), (5, vI x5), (6, vI x6), (7, vI x7)] [vI t0] := by
  unfold s_X11_rankOf_b111 at h
  refine r_istore C [(8, vI t0), (0, vO a0), (1, vI x1), (2, vI x2), (3, vI x3), (4, vI x4), (5, vI x5), (6, vI x6), (7, vI x7)] dX11_rankOf_111 (by decide) rfl ?_
  refine r_aload_n C 1 dX11_rankOf_113 rfl rfl ?_
  obtain ⟨v15, ev15, h⟩ := bs h
  refine r_getR C (c := 9) (r := (RX11, TX11, 38)) rfl 20 (by decide) rfl ev15 q1333 dX11_rankOf_114 ?_
  refine r_iload_n C 4 dX11_rankOf_117 rfl rfl ?_
  refine r_iconst C dX11_rankOf_118 ?_
  refine r_isub C dX11_rankOf_119 ?_
  refine r_iload C 0 dX11_rankOf_120 rfl ?_
  refine r_if_eq C dX11_rankOf_122 (tgt := 129) (by decide) (fun c16 => ?_) (fun c16 => ?_)
  · have h := it_ h c16
    refine r_iload C 6 dX11_rankOf_129 rfl ?_
    refine r_iconst C dX11_rankOf_131 ?_
    refine r_icmp_ne C dX11_rankOf_132 (tgt := 140) (by decide) (fun c17 => ?_) (fun c17 => ?_)
    · have h := ie_ h c17
      refine r_iload C 7 dX11_rankOf_140 rfl ?_
      refine r_iload C 8 dX11_rankOf_142 rfl ?_
      refine r_iadd C dX11_rankOf_144 ?_
      refine r_iload_n C 3 dX11_rankOf_145 rfl rfl ?_
      refine r_if_eq C dX11_rankOf_146 (tgt := 165) (by decide) (fun c18 => ?_) (fun c18 => ?_)
      · have h := it_ h c18
        refine r_iconst C dX11_rankOf_165 ?_
        refine r_iadd C dX11_rankOf_166 ?_
        obtain ⟨m19, em19, h⟩ := bs h
        refine r_iast C em19 dX11_rankOf_167 ?_
        refine r_iinc C 5 [(4, vI (x4 + 1)), (8, vI t0), (0, vO a0), (1, vI x1), (2, vI x2), (3, vI x3), (5, vI x5), (6, vI x6), (7, vI x7)] dX11_rankOf_168 rfl (by decide) rfl ?_
        refine r_goto C dX11_rankOf_171 (tgt := 5) (by decide) ?_
        cases h
        refine r_sub [2, 3, 4, 5, 0] rfl ?_
        exact hK
      · have h := ie_ h c18
        refine r_iload C 6 dX11_rankOf_149 rfl ?_
        refine r_iconst C dX11_rankOf_151 ?_
        refine r_icmp_ne C dX11_rankOf_152 (tgt := 165) (by decide) (fun c20 => ?_) (fun c20 => ?_)
        · have h := ie_ h c20
          refine r_iconst C dX11_rankOf_165 ?_
          refine r_iadd C dX11_rankOf_166 ?_
          obtain ⟨m21, em21, h⟩ := bs h
          refine r_iast C em21 dX11_rankOf_167 ?_
          refine r_iinc C 5 [(4, vI (x4 + 1)), (8, vI t0), (0, vO a0), (1, vI x1), (2, vI x2), (3, vI x3), (5, vI x5), (6, vI x6), (7, vI x7)] dX11_rankOf_168 rfl (by decide) rfl ?_
          refine r_goto C dX11_rankOf_171 (tgt := 5) (by decide) ?_
          cases h
          refine r_sub [2, 3, 4, 5, 0] rfl ?_
          exact hK
        · have h := it_ h c20
          refine r_aload_n C 1 dX11_rankOf_155 rfl rfl ?_
          refine r_iload_n C 2 dX11_rankOf_156 rfl rfl ?_
          refine r_iload C 5 dX11_rankOf_157 rfl ?_
          obtain ⟨u23, eu23, h⟩ := bs h
          obtain ⟨q22, eq22, h⟩ := bs h
          refine r_callV C (As := [vI x1, vI x4]) (b := a0) (rest := [vI (x6 + x7), vI (x3 - 1), vO v15]) (st1 := [vI q22.1, vI (x6 + x7), vI (x3 - 1), vO v15]) (v := some (vI q22.1)) (r := (RX11, TX11, 38)) (ci := 9) rfl eu23 (m_X11_toldBy C.tr eq22) (lw_V q1693 q1695 qs82 q133 q1696) rfl hdX11_toldBy rfl rfl (Nat.le_of_ble_eq_true rfl) ⟨by decide, by decide⟩ dX11_rankOf_159 rfl ?_
          refine r_goto C dX11_rankOf_162 (tgt := 166) (by decide) ?_
          refine r_iadd C dX11_rankOf_166 ?_
          obtain ⟨m24, em24, h⟩ := bs h
          refine r_iast C em24 dX11_rankOf_167 ?_
          refine r_iinc C 5 [(4, vI (x4 + 1)), (8, vI t0), (0, vO a0), (1, vI x1), (2, vI x2), (3, vI x3), (5, vI x5), (6, vI x6), (7, vI x7)] dX11_rankOf_168 rfl (by decide) rfl ?_
          refine r_goto C dX11_rankOf_171 (tgt := 5) (by decide) ?_
          cases h
          refine r_sub [2, 3, 4, 5, 0] rfl ?_
          exact hK
    · have h := it_ h c17
      refine r_iload C 7 dX11_rankOf_135 rfl ?_
      refine r_goto C dX11_rankOf_137 (tgt := 167) (by decide) ?_
      obtain ⟨m25, em25, h⟩ := bs h
      refine r_iast C em25 dX11_rankOf_167 ?_
      refine r_iinc C 5 [(4, vI (x4 + 1)), (8, vI t0), (0, vO a0), (1, vI x1), (2, vI x2), (3, vI x3), (5, vI x5), (6, vI x6), (7, vI x7)] dX11_rankOf_168 rfl (by decide) rfl ?_
      refine r_goto C dX11_rankOf_171 (tgt := 5) (by decide) ?_
      cases h
      refine r_sub [2, 3, 4, 5, 0] rfl ?_
      exact hK
  · have h := ie_ h c16
    refine r_iconst C dX11_rankOf_125 ?_
    refine r_goto C dX11_rankOf_126 (tgt := 167) (by decide) ?_
    obtain ⟨m26, em26, h⟩ := bs h
    refine r_iast C em26 dX11_rankOf_167 ?_
    refine r_iinc C 5 [(4, vI (x4 + 1)), (8, vI t0), (0, vO a0), (1, vI x1), (2, vI x2), (3, vI x3), (5, vI x5), (6, vI x6), (7, vI x7)] dX11_rankOf_168 rfl (by decide) rfl ?_
    refine r_goto C dX11_rankOf_171 (tgt := 5) (by decide) ?_
    cases h
    refine r_sub [2, 3, 4, 5, 0] rfl ?_
    exact hK
noncomputable def s_X11_rankOf_b106 (a0 : Nat) (x1 : Int) (x2 : Int) (x3 : Int) (x4 : Int) (x5 : Int) (x6 : Int) (x7 : Int)  (μ : Me) : Option ((Int × Int × Me) ⊕ (Int × Me)) :=
  s_X11_rankOf_b111 a0 x1 x2 x3 x4 x5 x6 x7 1 μ
theorem w_X11_rankOf_b106 {Z : Zt} {fin : Int × Me} {w : ((Int × Int × Me) ⊕ (Int × Me))} (C : CX Z yX11_rankOf cX11_rankOf (some .int) 2 9) {a0 : Nat} {x1 : Int} {x2 : Int} {x3 : Int} {x4 : Int} {x5 : Int} {x6 : Int} {x7 : Int}  {μ : Me} (h : s_X11_rankOf_b106 a0 x1 x2 x3 x4 x5 x6 x7 μ = some w) (hK : (Sum.elim (fun s : Int × Int × Me => WL Z (QN Z (some (vI fin.1)) fin.2) s.2.2 5 [(0, vO a0), (1, vI x1), (2, vI x2), (3, vI s.1), (4, vI s.2.1)] []) (fun r : Int × Me => r = fin)) w) : WL Z (QN Z (some (vI fin.1)) fin.2) μ 106 [(0, vO a0), (1, vI x1), (2, vI x2), (3, vI x3), (4, vI x4), (5, vI x5), (6, vI x6), (7, vI x7)] [] := by
  unfold s_X11_rankOf_b106 at h
  refine r_iconst C dX11_rankOf_106 ?_
  refine r_goto C dX11_rankOf_107 (tgt := 111) (by decide) ?_
  exact w_X11_rankOf_b111 (fin := fin) C h hK
noncomputable def s_X11_rankOf_b110 (a0 : Nat) (x1 : Int) (x2 : Int) (x3 : Int) (x4 : Int) (x5 : Int) (x6 : Int) (x7 : Int)  (μ : Me) : Option ((Int × Int × Me) ⊕ (Int × Me)) :=
  s_X11_rankOf_b111 a0 x1 x2 x3 x4 x5 x6 x7 0 μ
theorem w_X11_rankOf_b110 {Z : Zt} {fin : Int × Me} {w : ((Int × Int × Me) ⊕ (Int × Me))} (C : CX Z yX11_rankOf cX11_rankOf (some .int) 2 9) {a0 : Nat} {x1 : Int} {x2 : Int} {x3 : Int} {x4 : Int} {x5 : Int} {x6 : Int} {x7 : Int}  {μ : Me} (h : s_X11_rankOf_b110 a0 x1 x2 x3 x4 x5 x6 x7 μ = some w) (hK : (Sum.elim (fun s : Int × Int × Me => WL Z (QN Z (some (vI fin.1)) fin.2) s.2.2 5 [(0, vO a0), (1, vI x1), (2, vI x2), (3, vI s.1), (4, vI s.2.1)] []) (fun r : Int × Me => r = fin)) w) : WL Z (QN Z (some (vI fin.1)) fin.2) μ 110 [(0, vO a0), (1, vI x1), (2, vI x2), (3, vI x3), (4, vI x4), (5, vI x5), (6, vI x6), (7, vI x7)] [] := by
  unfold s_X11_rankOf_b110 at h
  refine r_iconst C dX11_rankOf_110 ?_
  exact w_X11_rankOf_b111 (fin := fin) C h hK
noncomputable def s_X11_rankOf_l5_st (a0 : Nat) (x1 : Int) (x2 : Int) (x3 : Int) (x4 : Int) (μ : Me) : Option ((Int × Int × Me) ⊕ (Int × Me)) :=
  (ck μ 9 a0).bind fun _ =>
  (s_X11_stepsOf a0 x1 μ).bind fun q1 =>
  (if w32 q1.1 ≤ w32 x4 then
  (s_X11_rankOf_b174 a0 q1.2).map Sum.inr
  else
  (ck q1.2 9 a0).bind fun _ =>
  (s_X11_stepOf a0 x1 x4 q1.2).bind fun q6 =>
  (if w32 1 < w32 q6.1 then
  (if w32 q6.1 = w32 5 then
  some (.inl (x3, (x4 + 1), q6.2))
  else
  (gR q6.2 9 a0 20).bind fun v10 =>
  (aI q6.2 101 v10 ((x3 + (-1)) - 1)).bind fun v11 =>
  (gR q6.2 9 a0 20).bind fun v12 =>
  (aI q6.2 101 v12 (x3 + (-1))).bind fun v13 =>
  (if w32 v11 < 0 then
  s_X11_rankOf_b106 a0 x1 x2 (x3 + (-1)) x4 q6.1 v11 v13 q6.2
  else
  (if w32 v13 < 0 then
  s_X11_rankOf_b106 a0 x1 x2 (x3 + (-1)) x4 q6.1 v11 v13 q6.2
  else
  (if w32 q6.1 = w32 2 then
  (if w32 v11 = w32 v13 then
  s_X11_rankOf_b110 a0 x1 x2 (x3 + (-1)) x4 q6.1 v11 v13 q6.2
  else
  s_X11_rankOf_b106 a0 x1 x2 (x3 + (-1)) x4 q6.1 v11 v13 q6.2)
  else
  s_X11_rankOf_b110 a0 x1 x2 (x3 + (-1)) x4 q6.1 v11 v13 q6.2))))
  else
  (gR q6.2 9 a0 20).bind fun v30 =>
  (if w32 q6.1 = 0 then
  (if w32 x2 = 0 then
  (uI q6.2 v30 x3 1).bind fun m35 =>
  some (.inl ((x3 + 1), (x4 + 1), m35))
  else
  (uI q6.2 v30 x3 0).bind fun m34 =>
  some (.inl ((x3 + 1), (x4 + 1), m34)))
  else
  (uI q6.2 v30 x3 0).bind fun m32 =>
  some (.inl ((x3 + 1), (x4 + 1), m32)))))
theorem w_X11_rankOf_l5_st {Z : Zt} {fin : Int × Me} {w : ((Int × Int × Me) ⊕ (Int × Me))} (C : CX Z yX11_rankOf cX11_rankOf (some .int) 2 9) {a0 : Nat} {x1 : Int} {x2 : Int} {x3 : Int} {x4 : Int} {μ : Me} (h : s_X11_rankOf_l5_st a0 x1 x2 x3 x4 μ = some w) (hK : (Sum.elim (fun s : Int × Int × Me => WL Z (QN Z (some (vI fin.1)) fin.2) s.2.2 5 [(0, vO a0), (1, vI x1), (2, vI x2), (3, vI s.1), (4, vI s.2.1)] []) (fun r : Int × Me => r = fin)) w) : WL Z (QN Z (some (vI fin.1)) fin.2) μ 5 [(0, vO a0), (1, vI x1), (2, vI x2), (3, vI x3), (4, vI x4)] [] := by
  unfold s_X11_rankOf_l5_st at h
  refine r_iload C 4 dX11_rankOf_5 rfl ?_
  refine r_aload_n C 0 dX11_rankOf_7 rfl rfl ?_
  refine r_iload_n C 1 dX11_rankOf_8 rfl rfl ?_
  obtain ⟨u2, eu2, h⟩ := bs h
  obtain ⟨q1, eq1, h⟩ := bs h
  refine r_callV C (As := [vI x1]) (b := a0) (rest := [vI x4]) (st1 := [vI q1.1, vI x4]) (v := some (vI q1.1)) (r := (RX11, TX11, 38)) (ci := 9) rfl eu2 (m_X11_stepsOf C.tr eq1) (lw_V q1681 q1683 qs79 q133 q1684) rfl hdX11_stepsOf rfl rfl (Nat.le_of_ble_eq_true rfl) ⟨by decide, by decide⟩ dX11_rankOf_9 rfl ?_
  refine r_icmp_ge C dX11_rankOf_12 (tgt := 174) (by decide) (fun c3 => ?_) (fun c3 => ?_)
  · have h := it_ h c3
    obtain ⟨z, hz, ez⟩ := ms_ h; clear h; subst ez; have h := hz; clear hz
    refine r_sub [0] rfl ?_
    exact w_X11_rankOf_b174 (fin := fin) C h hK
  · have h := ie_ h c3
    refine r_aload_n C 0 dX11_rankOf_15 rfl rfl ?_
    refine r_iload_n C 1 dX11_rankOf_16 rfl rfl ?_
    refine r_iload C 4 dX11_rankOf_17 rfl ?_
    obtain ⟨u7, eu7, h⟩ := bs h
    obtain ⟨q6, eq6, h⟩ := bs h
    refine r_callV C (As := [vI x1, vI x4]) (b := a0) (rest := []) (st1 := [vI q6.1]) (v := some (vI q6.1)) (r := (RX11, TX11, 38)) (ci := 9) rfl eu7 (m_X11_stepOf C.tr eq6) (lw_V q1685 q1687 qs80 q133 q1688) rfl hdX11_stepOf rfl rfl (Nat.le_of_ble_eq_true rfl) ⟨by decide, by decide⟩ dX11_rankOf_19 rfl ?_
    refine r_istore C [(5, vI q6.1), (0, vO a0), (1, vI x1), (2, vI x2), (3, vI x3), (4, vI x4)] dX11_rankOf_22 (by decide) rfl ?_
    refine r_iload C 0 dX11_rankOf_24 rfl ?_
    refine r_iconst C dX11_rankOf_26 ?_
    refine r_icmp_gt C dX11_rankOf_27 (tgt := 56) (by decide) (fun c8 => ?_) (fun c8 => ?_)
    · have h := it_ h c8
      refine r_iload C 0 dX11_rankOf_56 rfl ?_
      refine r_iconst C dX11_rankOf_58 ?_
      refine r_icmp_eq C dX11_rankOf_59 (tgt := 168) (by decide) (fun c9 => ?_) (fun c9 => ?_)
      · have h := it_ h c9
        refine r_iinc C 5 [(4, vI (x4 + 1)), (5, vI q6.1), (0, vO a0), (1, vI x1), (2, vI x2), (3, vI x3)] dX11_rankOf_168 rfl (by decide) rfl ?_
        refine r_goto C dX11_rankOf_171 (tgt := 5) (by decide) ?_
        cases h
        refine r_sub [2, 3, 4, 5, 0] rfl ?_
        exact hK
      · have h := ie_ h c9
        refine r_iinc C 4 [(3, vI (x3 + (-1))), (5, vI q6.1), (0, vO a0), (1, vI x1), (2, vI x2), (4, vI x4)] dX11_rankOf_62 rfl (by decide) rfl ?_
        refine r_aload_n C 2 dX11_rankOf_65 rfl rfl ?_
        obtain ⟨v10, ev10, h⟩ := bs h
        refine r_getR C (c := 9) (r := (RX11, TX11, 38)) rfl 20 (by decide) rfl ev10 q1333 dX11_rankOf_66 ?_
        refine r_iload_n C 0 dX11_rankOf_69 rfl rfl ?_
        refine r_iconst C dX11_rankOf_70 ?_
        refine r_isub C dX11_rankOf_71 ?_
        obtain ⟨v11, ev11, h⟩ := bs h
        refine r_iald C ev11 dX11_rankOf_72 ?_
        refine r_istore C [(6, vI v11), (3, vI (x3 + (-1))), (5, vI q6.1), (0, vO a0), (1, vI x1), (2, vI x2), (4, vI x4)] dX11_rankOf_73 (by decide) rfl ?_
        refine r_aload_n C 3 dX11_rankOf_75 rfl rfl ?_
        obtain ⟨v12, ev12, h⟩ := bs h
        refine r_getR C (c := 9) (r := (RX11, TX11, 38)) rfl 20 (by decide) rfl ev12 q1333 dX11_rankOf_76 ?_
        refine r_iload_n C 1 dX11_rankOf_79 rfl rfl ?_
        obtain ⟨v13, ev13, h⟩ := bs h
        refine r_iald C ev13 dX11_rankOf_80 ?_
        refine r_istore C [(7, vI v13), (6, vI v11), (3, vI (x3 + (-1))), (5, vI q6.1), (0, vO a0), (1, vI x1), (2, vI x2), (4, vI x4)] dX11_rankOf_81 (by decide) rfl ?_
        refine r_iload C 1 dX11_rankOf_83 rfl ?_
        refine r_if_lt C dX11_rankOf_85 (tgt := 106) (by decide) (fun c14 => ?_) (fun c14 => ?_)
        · have h := it_ h c14
          refine r_sub [4, 5, 6, 2, 7, 3, 1, 0] rfl ?_
          exact w_X11_rankOf_b106 (fin := fin) C h hK
        · have h := ie_ h c14
          refine r_iload C 0 dX11_rankOf_88 rfl ?_
          refine r_if_lt C dX11_rankOf_90 (tgt := 106) (by decide) (fun c27 => ?_) (fun c27 => ?_)
          · have h := it_ h c27
            refine r_sub [4, 5, 6, 2, 7, 3, 1, 0] rfl ?_
            exact w_X11_rankOf_b106 (fin := fin) C h hK
          · have h := ie_ h c27
            refine r_iload C 3 dX11_rankOf_93 rfl ?_
            refine r_iconst C dX11_rankOf_95 ?_
            refine r_icmp_ne C dX11_rankOf_96 (tgt := 110) (by decide) (fun c28 => ?_) (fun c28 => ?_)
            · have h := ie_ h c28
              refine r_sub [4, 5, 6, 2, 7, 3, 1, 0] rfl ?_
              exact w_X11_rankOf_b110 (fin := fin) C h hK
            · have h := it_ h c28
              refine r_iload C 1 dX11_rankOf_99 rfl ?_
              refine r_iload C 0 dX11_rankOf_101 rfl ?_
              refine r_icmp_eq C dX11_rankOf_103 (tgt := 110) (by decide) (fun c29 => ?_) (fun c29 => ?_)
              · have h := it_ h c29
                refine r_sub [4, 5, 6, 2, 7, 3, 1, 0] rfl ?_
                exact w_X11_rankOf_b110 (fin := fin) C h hK
              · have h := ie_ h c29
                refine r_sub [4, 5, 6, 2, 7, 3, 1, 0] rfl ?_
                exact w_X11_rankOf_b106 (fin := fin) C h hK
    · have h := ie_ h c8
      refine r_aload_n C 1 dX11_rankOf_30 rfl rfl ?_
      obtain ⟨v30, ev30, h⟩ := bs h
      refine r_getR C (c := 9) (r := (RX11, TX11, 38)) rfl 20 (by decide) rfl ev30 q1333 dX11_rankOf_31 ?_
      refine r_iload_n C 4 dX11_rankOf_34 rfl rfl ?_
      refine r_iload C 0 dX11_rankOf_35 rfl ?_
      refine r_if_ne C dX11_rankOf_37 (tgt := 48) (by decide) (fun c31 => ?_) (fun c31 => ?_)
      · have h := ie_ h c31
        refine r_iconst C dX11_rankOf_48 ?_
        obtain ⟨m32, em32, h⟩ := bs h
        refine r_iast C em32 dX11_rankOf_49 ?_
        refine r_iinc C 4 [(3, vI (x3 + 1)), (5, vI q6.1), (0, vO a0), (1, vI x1), (2, vI x2), (4, vI x4)] dX11_rankOf_50 rfl (by decide) rfl ?_
        refine r_goto C dX11_rankOf_53 (tgt := 168) (by decide) ?_
        refine r_iinc C 5 [(4, vI (x4 + 1)), (3, vI (x3 + 1)), (5, vI q6.1), (0, vO a0), (1, vI x1), (2, vI x2)] dX11_rankOf_168 rfl (by decide) rfl ?_
        refine r_goto C dX11_rankOf_171 (tgt := 5) (by decide) ?_
        cases h
        refine r_sub [3, 4, 5, 1, 0] rfl ?_
        exact hK
      · have h := it_ h c31
        refine r_iload_n C 3 dX11_rankOf_40 rfl rfl ?_
        refine r_if_ne C dX11_rankOf_41 (tgt := 48) (by decide) (fun c33 => ?_) (fun c33 => ?_)
        · have h := ie_ h c33
          refine r_iconst C dX11_rankOf_48 ?_
          obtain ⟨m34, em34, h⟩ := bs h
          refine r_iast C em34 dX11_rankOf_49 ?_
          refine r_iinc C 4 [(3, vI (x3 + 1)), (5, vI q6.1), (0, vO a0), (1, vI x1), (2, vI x2), (4, vI x4)] dX11_rankOf_50 rfl (by decide) rfl ?_
          refine r_goto C dX11_rankOf_53 (tgt := 168) (by decide) ?_
          refine r_iinc C 5 [(4, vI (x4 + 1)), (3, vI (x3 + 1)), (5, vI q6.1), (0, vO a0), (1, vI x1), (2, vI x2)] dX11_rankOf_168 rfl (by decide) rfl ?_
          refine r_goto C dX11_rankOf_171 (tgt := 5) (by decide) ?_
          cases h
          refine r_sub [3, 4, 5, 1, 0] rfl ?_
          exact hK
        · have h := it_ h c33
          refine r_iconst C dX11_rankOf_44 ?_
          refine r_goto C dX11_rankOf_45 (tgt := 49) (by decide) ?_
          obtain ⟨m35, em35, h⟩ := bs h
          refine r_iast C em35 dX11_rankOf_49 ?_
          refine r_iinc C 4 [(3, vI (x3 + 1)), (5, vI q6.1), (0, vO a0), (1, vI x1), (2, vI x2), (4, vI x4)] dX11_rankOf_50 rfl (by decide) rfl ?_
          refine r_goto C dX11_rankOf_53 (tgt := 168) (by decide) ?_
          refine r_iinc C 5 [(4, vI (x4 + 1)), (3, vI (x3 + 1)), (5, vI q6.1), (0, vO a0), (1, vI x1), (2, vI x2)] dX11_rankOf_168 rfl (by decide) rfl ?_
          refine r_goto C dX11_rankOf_171 (tgt := 5) (by decide) ?_
          cases h
          refine r_sub [3, 4, 5, 1, 0] rfl ?_
          exact hK
noncomputable def s_X11_rankOf_l5 (a0 : Nat) (x1 : Int) (x2 : Int) (x3 : Int) (x4 : Int) (μ : Me) : Option (Int × Me) :=
  whileO (fun s : Int × Int × Me => s_X11_rankOf_l5_st a0 x1 x2 s.1 s.2.1 s.2.2) (x3, x4, μ)
theorem e_X11_rankOf_l5 (a0 : Nat) (x1 : Int) (x2 : Int) (x3 : Int) (x4 : Int) (μ : Me) : s_X11_rankOf_l5 a0 x1 x2 x3 x4 μ = (s_X11_rankOf_l5_st a0 x1 x2 x3 x4 μ).bind fun x => x.elim (fun s : Int × Int × Me => s_X11_rankOf_l5 a0 x1 x2 s.1 s.2.1 s.2.2) some := whileO_eq _ _
theorem w_X11_rankOf_l5 {Z : Zt} {fin : Int × Me} {w : (Int × Me)} (C : CX Z yX11_rankOf cX11_rankOf (some .int) 2 9) {a0 : Nat} {x1 : Int} {x2 : Int} {x3 : Int} {x4 : Int} {μ : Me} (h : s_X11_rankOf_l5 a0 x1 x2 x3 x4 μ = some w) (hK : (fun r : Int × Me => r = fin) w) : WL Z (QN Z (some (vI fin.1)) fin.2) μ 5 [(0, vO a0), (1, vI x1), (2, vI x2), (3, vI x3), (4, vI x4)] [] := by
  refine whileO_walk (w := w) (fun s : Int × Int × Me => WL Z (QN Z (some (vI fin.1)) fin.2) s.2.2 5 [(0, vO a0), (1, vI x1), (2, vI x2), (3, vI s.1), (4, vI s.2.1)] []) (fun s v h2 hi hr => ?_) (x3, x4, μ) h
  refine w_X11_rankOf_l5_st (fin := fin) C h2 ?_
  cases v with
  | inl s2 => exact hi s2 rfl
  | inr r => have e := hr r rfl; subst e; exact hK
noncomputable def s_X11_rankOf (a0 : Nat) (x1 : Int) (x2 : Int) (μ : Me) : Option (Int × Me) :=
  s_X11_rankOf_l5 a0 x1 x2 0 0 μ
theorem w_X11_rankOf {Z : Zt} {fin : Int × Me} {w : Int × Me} (C : CX Z yX11_rankOf cX11_rankOf (some .int) 2 9) {a0 : Nat} {x1 : Int} {x2 : Int} {μ : Me} (h : s_X11_rankOf a0 x1 x2 μ = some w) (hK : w = fin) : WL Z (QN Z (some (vI fin.1)) fin.2) μ 0 [(0, vO a0), (1, vI x1), (2, vI x2)] [] := by
  unfold s_X11_rankOf at h
  refine r_iconst C dX11_rankOf_0 ?_
  refine r_istore_n C [(3, vI 0), (0, vO a0), (1, vI x1), (2, vI x2)] dX11_rankOf_1 rfl (by decide) rfl ?_
  refine r_iconst C dX11_rankOf_2 ?_
  refine r_istore C [(4, vI 0), (3, vI 0), (0, vO a0), (1, vI x1), (2, vI x2)] dX11_rankOf_3 (by decide) rfl ?_
  refine r_sub [2, 3, 4, 1, 0] rfl ?_
  exact w_X11_rankOf_l5 (fin := fin) C h hK
theorem hdX11_rankOf : zhd yX11_rankOf 2 := by decide +kernel
theorem m_X11_rankOf {l : Launch} {D : va_G} {b0 : Nat} (hl : l.stackTraces = false) {a0 : Nat} {x1 : Int} {x2 : Int} {μ : Me} {w : Int × Me} (h : s_X11_rankOf a0 x1 x2 μ = some w) : MN l D b0 yX11_rankOf (ws_ yX11_rankOf cX11_rankOf 9 (some .int)) 2 [vO a0, vI x1, vI x2] μ (some (vI w.1)) w.2 :=
  MN.of hl (by decide +kernel) (Nat.le_of_ble_eq_true rfl) (fun Z C _ _ => w_X11_rankOf C h rfl)
noncomputable def s_X11_rank (a0 : Nat) (x1 : Int) (x2 : Int) (μ : Me) : Option (Int × Me) :=
  (pI μ 9 a0 0 0).bind fun m1 =>
  (ck m1 9 a0).bind fun _ =>
  (s_X11_noSigns a0 x1 m1).bind fun q2 =>
  (ck q2.2 9 a0).bind fun _ =>
  (s_X11_throwsIf a0 q2.1 1 q2.2).bind fun q4 =>
  (if w32 q4.1 = 0 then
  (ck q4.2 9 a0).bind fun _ =>
  (s_X11_rankOf a0 x1 x2 q4.2).bind fun q7 =>
  some (q7.1, q7.2)
  else
  some (0, q4.2))
theorem w_X11_rank {Z : Zt} {fin : Int × Me} {w : Int × Me} (C : CX Z yX11_rank cX11_rank (some .int) 3 3) {a0 : Nat} {x1 : Int} {x2 : Int} {μ : Me} (h : s_X11_rank a0 x1 x2 μ = some w) (hK : w = fin) : WL Z (QN Z (some (vI fin.1)) fin.2) μ 0 [(0, vO a0), (1, vI x1), (2, vI x2)] [] := by
  unfold s_X11_rank at h
  refine r_aload_n C 0 dX11_rank_0 rfl rfl ?_
  refine r_iconst C dX11_rank_1 ?_
  obtain ⟨m1, em1, h⟩ := bs h
  refine r_putI C (c := 9) (r := (RX11, TX11, 38)) rfl 0 (by decide) rfl ⟨rfl, rfl⟩ rfl em1 q1313 dX11_rank_2 ?_
  refine r_aload_n C 0 dX11_rank_5 rfl rfl ?_
  refine r_aload_n C 0 dX11_rank_6 rfl rfl ?_
  refine r_iload_n C 1 dX11_rank_7 rfl rfl ?_
  obtain ⟨u3, eu3, h⟩ := bs h
  obtain ⟨q2, eq2, h⟩ := bs h
  refine r_callV C (As := [vI x1]) (b := a0) (rest := [vO a0]) (st1 := [vI q2.1, vO a0]) (v := some (vI q2.1)) (r := (RX11, TX11, 38)) (ci := 9) rfl eu3 (m_X11_noSigns C.tr eq2) (lw_V q1673 q1675 qs77 q133 q1676) rfl hdX11_noSigns rfl rfl (Nat.le_of_ble_eq_true rfl) ⟨by decide, by decide⟩ dX11_rank_8 rfl ?_
  refine r_iconst C dX11_rank_11 ?_
  obtain ⟨u5, eu5, h⟩ := bs h
  obtain ⟨q4, eq4, h⟩ := bs h
  refine r_callV C (As := [vI q2.1, vI 1]) (b := a0) (rest := []) (st1 := [vI q4.1]) (v := some (vI q4.1)) (r := (RX11, TX11, 38)) (ci := 9) rfl eu5 (m_X11_throwsIf C.tr eq4) (lw_V q1500 q1502 qs49 q133 q1503) rfl hdX11_throwsIf rfl rfl (Nat.le_of_ble_eq_true rfl) ⟨by decide, by decide⟩ dX11_rank_12 rfl ?_
  refine r_if_eq C dX11_rank_15 (tgt := 22) (by decide) (fun c6 => ?_) (fun c6 => ?_)
  · have h := it_ h c6
    refine r_aload_n C 0 dX11_rank_22 rfl rfl ?_
    refine r_iload_n C 1 dX11_rank_23 rfl rfl ?_
    refine r_iload_n C 2 dX11_rank_24 rfl rfl ?_
    obtain ⟨u8, eu8, h⟩ := bs h
    obtain ⟨q7, eq7, h⟩ := bs h
    refine r_callV C (As := [vI x1, vI x2]) (b := a0) (rest := []) (st1 := [vI q7.1]) (v := some (vI q7.1)) (r := (RX11, TX11, 38)) (ci := 9) rfl eu8 (m_X11_rankOf C.tr eq7) (lw_V q1724 q1726 qs88 q133 q1727) rfl hdX11_rankOf rfl rfl (Nat.le_of_ble_eq_true rfl) ⟨by decide, by decide⟩ dX11_rank_25 rfl ?_
    cases h
    exact r_iret C hK dX11_rank_28
  · have h := ie_ h c6
    refine r_iconst C dX11_rank_18 ?_
    refine r_goto C dX11_rank_19 (tgt := 28) (by decide) ?_
    cases h
    exact r_iret C hK dX11_rank_28
theorem hdX11_rank : zhd yX11_rank 2 := by decide +kernel
theorem m_X11_rank {l : Launch} {D : va_G} {b0 : Nat} (hl : l.stackTraces = false) {a0 : Nat} {x1 : Int} {x2 : Int} {μ : Me} {w : Int × Me} (h : s_X11_rank a0 x1 x2 μ = some w) : MN l D b0 yX11_rank (ws_ yX11_rank cX11_rank 3 (some .int)) 3 [vO a0, vI x1, vI x2] μ (some (vI w.1)) w.2 :=
  MN.of hl (by decide +kernel) (Nat.le_of_ble_eq_true rfl) (fun Z C _ _ => w_X11_rank C h rfl)
noncomputable def s_X11_stays_b141 (a0 : Nat) (x1 : Int) (x2 : Int)  (μ : Me) : Option (Int × Me) :=
  (ck μ 9 a0).bind fun _ =>
  (s_X11_takes a0 40 x2 μ).bind fun q27 =>
  (ck q27 9 a0).bind fun _ =>
  (s_X11_mixes a0 40 44 q27).bind fun q29 =>
  (ck q29 9 a0).bind fun _ =>
  (s_X11_makes a0 x1 q29).bind fun q31 =>
  (if w32 q31.1 = 0 then
  some (0, q31.2)
  else
  (ck q31.2 9 a0).bind fun _ =>
  (s_X11_isLike a0 0 42 q31.2).bind fun q34 =>
  (if w32 q34.1 = 0 then
  some (0, q34.2)
  else
  some (1, q34.2)))
theorem w_X11_stays_b141 {Z : Zt} {fin : Int × Me} {w : (Int × Me)} (C : CX Z yX11_stays cX11_stays (some .boolean) 8 7) {a0 : Nat} {x1 : Int} {x2 : Int}  {μ : Me} (h : s_X11_stays_b141 a0 x1 x2 μ = some w) (hK : (fun r : Int × Me => r = fin) w) : WL Z (QN Z (some (vI fin.1)) fin.2) μ 141 [(0, vO a0), (1, vI x1), (2, vI x2)] [] := by
  unfold s_X11_stays_b141 at h
  refine r_aload_n C 0 dX11_stays_141 rfl rfl ?_
  refine r_bipush C dX11_stays_142 (by decide) ?_
  refine r_iload_n C 2 dX11_stays_144 rfl rfl ?_
  obtain ⟨u28, eu28, h⟩ := bs h
  obtain ⟨q27, eq27, h⟩ := bs h
  refine r_callV C (As := [vI 40, vI x2]) (b := a0) (rest := []) (st1 := []) (v := none) (r := (RX11, TX11, 38)) (ci := 9) rfl eu28 (m_X11_takes C.tr eq27) (lw_V q1617 q1619 qs67 q133 q1620) rfl hdX11_takes rfl rfl (Nat.le_of_ble_eq_true rfl) ⟨by decide, by decide⟩ dX11_stays_145 rfl ?_
  refine r_aload_n C 0 dX11_stays_148 rfl rfl ?_
  refine r_bipush C dX11_stays_149 (by decide) ?_
  refine r_bipush C dX11_stays_151 (by decide) ?_
  obtain ⟨u30, eu30, h⟩ := bs h
  obtain ⟨q29, eq29, h⟩ := bs h
  refine r_callV C (As := [vI 40, vI 44]) (b := a0) (rest := []) (st1 := []) (v := none) (r := (RX11, TX11, 38)) (ci := 9) rfl eu30 (m_X11_mixes C.tr eq29) (lw_V q1641 q1643 qs72 q133 q1644) rfl hdX11_mixes rfl rfl (Nat.le_of_ble_eq_true rfl) ⟨by decide, by decide⟩ dX11_stays_153 rfl ?_
  refine r_aload_n C 0 dX11_stays_156 rfl rfl ?_
  refine r_iload_n C 1 dX11_stays_157 rfl rfl ?_
  obtain ⟨u32, eu32, h⟩ := bs h
  obtain ⟨q31, eq31, h⟩ := bs h
  refine r_callV C (As := [vI x1]) (b := a0) (rest := []) (st1 := [vI q31.1]) (v := some (vI q31.1)) (r := (RX11, TX11, 38)) (ci := 9) rfl eu32 (m_X11_makes C.tr eq31) (lw_V q1677 q1679 qs78 q133 q1680) rfl hdX11_makes rfl rfl (Nat.le_of_ble_eq_true rfl) ⟨by decide, by decide⟩ dX11_stays_158 rfl ?_
  refine r_if_eq C dX11_stays_161 (tgt := 178) (by decide) (fun c33 => ?_) (fun c33 => ?_)
  · have h := it_ h c33
    refine r_iconst C dX11_stays_178 ?_
    cases h
    exact r_zret C (Or.inl rfl) hK dX11_stays_179
  · have h := ie_ h c33
    refine r_aload_n C 0 dX11_stays_164 rfl rfl ?_
    refine r_iconst C dX11_stays_165 ?_
    refine r_bipush C dX11_stays_166 (by decide) ?_
    obtain ⟨u35, eu35, h⟩ := bs h
    obtain ⟨q34, eq34, h⟩ := bs h
    refine r_callV C (As := [vI 0, vI 42]) (b := a0) (rest := []) (st1 := [vI q34.1]) (v := some (vI q34.1)) (r := (RX11, TX11, 38)) (ci := 9) rfl eu35 (m_X11_isLike C.tr eq34) (lw_V q1653 q1655 qs75 q133 q1656) rfl hdX11_isLike rfl rfl (Nat.le_of_ble_eq_true rfl) ⟨by decide, by decide⟩ dX11_stays_168 rfl ?_
    refine r_if_eq C dX11_stays_171 (tgt := 178) (by decide) (fun c36 => ?_) (fun c36 => ?_)
    · have h := it_ h c36
      refine r_iconst C dX11_stays_178 ?_
      cases h
      exact r_zret C (Or.inl rfl) hK dX11_stays_179
    · have h := ie_ h c36
      refine r_iconst C dX11_stays_174 ?_
      refine r_goto C dX11_stays_175 (tgt := 179) (by decide) ?_
      cases h
      exact r_zret C (Or.inr rfl) hK dX11_stays_179
noncomputable def s_X11_stays_l101_st (a0 : Nat) (x1 : Int) (x2 : Int) (x5 : Int) (x6 : Int) (μ : Me) : Option ((Int × Me) ⊕ (Int × Me)) :=
  (gR μ 9 a0 4).bind fun v24 =>
  (aI μ 101 v24 42).bind fun v25 =>
  (if w32 v25 < w32 x6 then
  (s_X11_stays_b141 a0 x1 x2 μ).map Sum.inr
  else
  (ck μ 9 a0).bind fun _ =>
  (s_X11_of a0 42 x6 μ).bind fun q37 =>
  (ck q37.2 9 a0).bind fun _ =>
  (s_X11_times a0 q37.1 x5 q37.2).bind fun q39 =>
  (ck q39.2 9 a0).bind fun _ =>
  (s_X11_put a0 42 x6 q39.1 q39.2).bind fun q41 =>
  some (.inl ((x6 + 1), q41)))
theorem w_X11_stays_l101_st {Z : Zt} {fin : Int × Me} {w : ((Int × Me) ⊕ (Int × Me))} (C : CX Z yX11_stays cX11_stays (some .boolean) 8 7) {a0 : Nat} {x1 : Int} {x2 : Int} {x5 : Int} {x6 : Int} {μ : Me} (h : s_X11_stays_l101_st a0 x1 x2 x5 x6 μ = some w) (hK : (Sum.elim (fun s : Int × Me => WL Z (QN Z (some (vI fin.1)) fin.2) s.2 101 [(0, vO a0), (1, vI x1), (2, vI x2), (5, vI x5), (6, vI s.1)] []) (fun r : Int × Me => r = fin)) w) : WL Z (QN Z (some (vI fin.1)) fin.2) μ 101 [(0, vO a0), (1, vI x1), (2, vI x2), (5, vI x5), (6, vI x6)] [] := by
  unfold s_X11_stays_l101_st at h
  refine r_iload C 4 dX11_stays_101 rfl ?_
  refine r_aload_n C 0 dX11_stays_103 rfl rfl ?_
  obtain ⟨v24, ev24, h⟩ := bs h
  refine r_getR C (c := 9) (r := (RX11, TX11, 38)) rfl 4 (by decide) rfl ev24 q1317 dX11_stays_104 ?_
  refine r_bipush C dX11_stays_107 (by decide) ?_
  obtain ⟨v25, ev25, h⟩ := bs h
  refine r_iald C ev25 dX11_stays_109 ?_
  refine r_icmp_gt C dX11_stays_110 (tgt := 141) (by decide) (fun c26 => ?_) (fun c26 => ?_)
  · have h := it_ h c26
    obtain ⟨z, hz, ez⟩ := ms_ h; clear h; subst ez; have h := hz; clear hz
    refine r_sub [0, 1, 2] rfl ?_
    exact w_X11_stays_b141 (fin := fin) C h hK
  · have h := ie_ h c26
    refine r_aload_n C 0 dX11_stays_113 rfl rfl ?_
    refine r_bipush C dX11_stays_114 (by decide) ?_
    refine r_iload C 4 dX11_stays_116 rfl ?_
    refine r_aload_n C 0 dX11_stays_118 rfl rfl ?_
    refine r_aload_n C 0 dX11_stays_119 rfl rfl ?_
    refine r_bipush C dX11_stays_120 (by decide) ?_
    refine r_iload C 4 dX11_stays_122 rfl ?_
    obtain ⟨u38, eu38, h⟩ := bs h
    obtain ⟨q37, eq37, h⟩ := bs h
    refine r_callV C (As := [vI 42, vI x6]) (b := a0) (rest := [vO a0, vI x6, vI 42, vO a0]) (st1 := [vI q37.1, vO a0, vI x6, vI 42, vO a0]) (v := some (vI q37.1)) (r := (RX11, TX11, 38)) (ci := 9) rfl eu38 (m_X11_of C.tr eq37) (lw_V q1629 q1631 qs70 q133 q1632) rfl hdX11_of rfl rfl (Nat.le_of_ble_eq_true rfl) ⟨by decide, by decide⟩ dX11_stays_124 rfl ?_
    refine r_iload C 3 dX11_stays_127 rfl ?_
    obtain ⟨u40, eu40, h⟩ := bs h
    obtain ⟨q39, eq39, h⟩ := bs h
    refine r_callV C (As := [vI q37.1, vI x5]) (b := a0) (rest := [vI x6, vI 42, vO a0]) (st1 := [vI q39.1, vI x6, vI 42, vO a0]) (v := some (vI q39.1)) (r := (RX11, TX11, 38)) (ci := 9) rfl eu40 (m_X11_times C.tr eq39) (lw_V q1541 q1543 qs54 q133 q1544) rfl hdX11_times rfl rfl (Nat.le_of_ble_eq_true rfl) ⟨by decide, by decide⟩ dX11_stays_129 rfl ?_
    obtain ⟨u42, eu42, h⟩ := bs h
    obtain ⟨q41, eq41, h⟩ := bs h
    refine r_callV C (As := [vI 42, vI x6, vI q39.1]) (b := a0) (rest := []) (st1 := []) (v := none) (r := (RX11, TX11, 38)) (ci := 9) rfl eu42 (m_X11_put C.tr eq41) (lw_V q1621 q1623 qs68 q133 q1624) rfl hdX11_put rfl rfl (Nat.le_of_ble_eq_true rfl) ⟨by decide, by decide⟩ dX11_stays_132 rfl ?_
    refine r_iinc C 4 [(6, vI (x6 + 1)), (0, vO a0), (1, vI x1), (2, vI x2), (5, vI x5)] dX11_stays_135 rfl (by decide) rfl ?_
    refine r_goto C dX11_stays_138 (tgt := 101) (by decide) ?_
    cases h
    refine r_sub [1, 2, 3, 4, 0] rfl ?_
    exact hK
noncomputable def s_X11_stays_l101 (a0 : Nat) (x1 : Int) (x2 : Int) (x5 : Int) (x6 : Int) (μ : Me) : Option (Int × Me) :=
  whileO (fun s : Int × Me => s_X11_stays_l101_st a0 x1 x2 x5 s.1 s.2) (x6, μ)
theorem e_X11_stays_l101 (a0 : Nat) (x1 : Int) (x2 : Int) (x5 : Int) (x6 : Int) (μ : Me) : s_X11_stays_l101 a0 x1 x2 x5 x6 μ = (s_X11_stays_l101_st a0 x1 x2 x5 x6 μ).bind fun x => x.elim (fun s : Int × Me => s_X11_stays_l101 a0 x1 x2 x5 s.1 s.2) some := whileO_eq _ _
theorem w_X11_stays_l101 {Z : Zt} {fin : Int × Me} {w : (Int × Me)} (C : CX Z yX11_stays cX11_stays (some .boolean) 8 7) {a0 : Nat} {x1 : Int} {x2 : Int} {x5 : Int} {x6 : Int} {μ : Me} (h : s_X11_stays_l101 a0 x1 x2 x5 x6 μ = some w) (hK : (fun r : Int × Me => r = fin) w) : WL Z (QN Z (some (vI fin.1)) fin.2) μ 101 [(0, vO a0), (1, vI x1), (2, vI x2), (5, vI x5), (6, vI x6)] [] := by
  refine whileO_walk (w := w) (fun s : Int × Me => WL Z (QN Z (some (vI fin.1)) fin.2) s.2 101 [(0, vO a0), (1, vI x1), (2, vI x2), (5, vI x5), (6, vI s.1)] []) (fun s v h2 hi hr => ?_) (x6, μ) h
  refine w_X11_stays_l101_st (fin := fin) C h2 ?_
  cases v with
  | inl s2 => exact hi s2 rfl
  | inr r => have e := hr r rfl; subst e; exact hK
noncomputable def s_X11_stays_b35 (a0 : Nat) (x1 : Int) (x2 : Int) (x3 : Int) (t0 : Int) (t1 : Nat) (μ : Me) : Option (Int × Me) :=
  (ck μ 9 t1).bind fun _ =>
  (s_X11_throwsIf t1 t0 1 μ).bind fun q5 =>
  (if w32 q5.1 = 0 then
  (ck q5.2 9 a0).bind fun _ =>
  (s_X11_rankOf a0 x1 1 q5.2).bind fun q8 =>
  (ck q8.2 9 a0).bind fun _ =>
  (s_X11_takes a0 44 x2 q8.2).bind fun q10 =>
  (if w32 q8.1 < 0 then
  some (0, q10)
  else
  (ck q10 9 a0).bind fun _ =>
  (s_X11_makes a0 x1 q10).bind fun q13 =>
  (if w32 q13.1 = 0 then
  some (0, q13.2)
  else
  (ck q13.2 9 a0).bind fun _ =>
  (s_X11_tables a0 x3 q13.2).bind fun q16 =>
  (ck q16 9 a0).bind fun _ =>
  (s_X11_mixes a0 0 42 q16).bind fun q18 =>
  (ck q18 9 a0).bind fun _ =>
  (s_X11_detNow a0  q18).bind fun q20 =>
  (ck q20.2 9 a0).bind fun _ =>
  (s_X11_power a0 q20.1 q8.1 q20.2).bind fun q22 =>
  s_X11_stays_l101 a0 x1 x2 q22.1 0 q22.2))
  else
  some (0, q5.2))
theorem w_X11_stays_b35 {Z : Zt} {fin : Int × Me} {w : (Int × Me)} (C : CX Z yX11_stays cX11_stays (some .boolean) 8 7) {a0 : Nat} {x1 : Int} {x2 : Int} {x3 : Int} {t0 : Int} {t1 : Nat} {μ : Me} (h : s_X11_stays_b35 a0 x1 x2 x3 t0 t1 μ = some w) (hK : (fun r : Int × Me => r = fin) w) : WL Z (QN Z (some (vI fin.1)) fin.2) μ 35 [(0, vO a0), (1, vI x1), (2, vI x2), (3, vI x3)] [vI t0, vO t1] := by
  unfold s_X11_stays_b35 at h
  refine r_iconst C dX11_stays_35 ?_
  obtain ⟨u6, eu6, h⟩ := bs h
  obtain ⟨q5, eq5, h⟩ := bs h
  refine r_callV C (As := [vI t0, vI 1]) (b := t1) (rest := []) (st1 := [vI q5.1]) (v := some (vI q5.1)) (r := (RX11, TX11, 38)) (ci := 9) rfl eu6 (m_X11_throwsIf C.tr eq5) (lw_V q1500 q1502 qs49 q133 q1503) rfl hdX11_throwsIf rfl rfl (Nat.le_of_ble_eq_true rfl) ⟨by decide, by decide⟩ dX11_stays_36 rfl ?_
  refine r_if_eq C dX11_stays_39 (tgt := 44) (by decide) (fun c7 => ?_) (fun c7 => ?_)
  · have h := it_ h c7
    refine r_aload_n C 0 dX11_stays_44 rfl rfl ?_
    refine r_iload_n C 1 dX11_stays_45 rfl rfl ?_
    refine r_iconst C dX11_stays_46 ?_
    obtain ⟨u9, eu9, h⟩ := bs h
    obtain ⟨q8, eq8, h⟩ := bs h
    refine r_callV C (As := [vI x1, vI 1]) (b := a0) (rest := []) (st1 := [vI q8.1]) (v := some (vI q8.1)) (r := (RX11, TX11, 38)) (ci := 9) rfl eu9 (m_X11_rankOf C.tr eq8) (lw_V q1724 q1726 qs88 q133 q1727) rfl hdX11_rankOf rfl rfl (Nat.le_of_ble_eq_true rfl) ⟨by decide, by decide⟩ dX11_stays_47 rfl ?_
    refine r_istore C [(4, vI q8.1), (0, vO a0), (1, vI x1), (2, vI x2), (3, vI x3)] dX11_stays_50 (by decide) rfl ?_
    refine r_aload_n C 1 dX11_stays_52 rfl rfl ?_
    refine r_bipush C dX11_stays_53 (by decide) ?_
    refine r_iload_n C 3 dX11_stays_55 rfl rfl ?_
    obtain ⟨u11, eu11, h⟩ := bs h
    obtain ⟨q10, eq10, h⟩ := bs h
    refine r_callV C (As := [vI 44, vI x2]) (b := a0) (rest := []) (st1 := []) (v := none) (r := (RX11, TX11, 38)) (ci := 9) rfl eu11 (m_X11_takes C.tr eq10) (lw_V q1617 q1619 qs67 q133 q1620) rfl hdX11_takes rfl rfl (Nat.le_of_ble_eq_true rfl) ⟨by decide, by decide⟩ dX11_stays_56 rfl ?_
    refine r_iload C 0 dX11_stays_59 rfl ?_
    refine r_if_lt C dX11_stays_61 (tgt := 72) (by decide) (fun c12 => ?_) (fun c12 => ?_)
    · have h := it_ h c12
      refine r_iconst C dX11_stays_72 ?_
      cases h
      exact r_zret C (Or.inl rfl) hK dX11_stays_73
    · have h := ie_ h c12
      refine r_aload_n C 1 dX11_stays_64 rfl rfl ?_
      refine r_iload_n C 2 dX11_stays_65 rfl rfl ?_
      obtain ⟨u14, eu14, h⟩ := bs h
      obtain ⟨q13, eq13, h⟩ := bs h
      refine r_callV C (As := [vI x1]) (b := a0) (rest := []) (st1 := [vI q13.1]) (v := some (vI q13.1)) (r := (RX11, TX11, 38)) (ci := 9) rfl eu14 (m_X11_makes C.tr eq13) (lw_V q1677 q1679 qs78 q133 q1680) rfl hdX11_makes rfl rfl (Nat.le_of_ble_eq_true rfl) ⟨by decide, by decide⟩ dX11_stays_66 rfl ?_
      refine r_if_ne C dX11_stays_69 (tgt := 74) (by decide) (fun c15 => ?_) (fun c15 => ?_)
      · have h := ie_ h c15
        refine r_aload_n C 1 dX11_stays_74 rfl rfl ?_
        refine r_iload_n C 4 dX11_stays_75 rfl rfl ?_
        obtain ⟨u17, eu17, h⟩ := bs h
        obtain ⟨q16, eq16, h⟩ := bs h
        refine r_callV C (As := [vI x3]) (b := a0) (rest := []) (st1 := []) (v := none) (r := (RX11, TX11, 38)) (ci := 9) rfl eu17 (m_X11_tables C.tr eq16) (lw_V q1561 q1563 qs58 q133 q1564) rfl hdX11_tables rfl rfl (Nat.le_of_ble_eq_true rfl) ⟨by decide, by decide⟩ dX11_stays_76 rfl ?_
        refine r_aload_n C 1 dX11_stays_79 rfl rfl ?_
        refine r_iconst C dX11_stays_80 ?_
        refine r_bipush C dX11_stays_81 (by decide) ?_
        obtain ⟨u19, eu19, h⟩ := bs h
        obtain ⟨q18, eq18, h⟩ := bs h
        refine r_callV C (As := [vI 0, vI 42]) (b := a0) (rest := []) (st1 := []) (v := none) (r := (RX11, TX11, 38)) (ci := 9) rfl eu19 (m_X11_mixes C.tr eq18) (lw_V q1641 q1643 qs72 q133 q1644) rfl hdX11_mixes rfl rfl (Nat.le_of_ble_eq_true rfl) ⟨by decide, by decide⟩ dX11_stays_83 rfl ?_
        refine r_aload_n C 1 dX11_stays_86 rfl rfl ?_
        refine r_aload_n C 1 dX11_stays_87 rfl rfl ?_
        obtain ⟨u21, eu21, h⟩ := bs h
        obtain ⟨q20, eq20, h⟩ := bs h
        refine r_callV C (As := []) (b := a0) (rest := [vO a0]) (st1 := [vI q20.1, vO a0]) (v := some (vI q20.1)) (r := (RX11, TX11, 38)) (ci := 9) rfl eu21 (m_X11_detNow C.tr eq20) (lw_V q1537 q1539 qs53 q133 q1540) rfl hdX11_detNow rfl rfl (Nat.le_of_ble_eq_true rfl) ⟨by decide, by decide⟩ dX11_stays_88 rfl ?_
        refine r_iload C 0 dX11_stays_91 rfl ?_
        obtain ⟨u23, eu23, h⟩ := bs h
        obtain ⟨q22, eq22, h⟩ := bs h
        refine r_callV C (As := [vI q20.1, vI q8.1]) (b := a0) (rest := []) (st1 := [vI q22.1]) (v := some (vI q22.1)) (r := (RX11, TX11, 38)) (ci := 9) rfl eu23 (m_X11_power C.tr eq22) (lw_V q1585 q1587 qs63 q133 q1588) rfl hdX11_power rfl rfl (Nat.le_of_ble_eq_true rfl) ⟨by decide, by decide⟩ dX11_stays_93 rfl ?_
        refine r_istore C [(5, vI q22.1), (4, vI q8.1), (0, vO a0), (1, vI x1), (2, vI x2), (3, vI x3)] dX11_stays_96 (by decide) rfl ?_
        refine r_iconst C dX11_stays_98 ?_
        refine r_istore C [(6, vI 0), (5, vI q22.1), (4, vI q8.1), (0, vO a0), (1, vI x1), (2, vI x2), (3, vI x3)] dX11_stays_99 (by decide) rfl ?_
        refine r_sub [3, 4, 5, 1, 0] rfl ?_
        exact w_X11_stays_l101 (fin := fin) C h hK
      · have h := it_ h c15
        refine r_iconst C dX11_stays_72 ?_
        cases h
        exact r_zret C (Or.inl rfl) hK dX11_stays_73
  · have h := ie_ h c7
    refine r_iconst C dX11_stays_42 ?_
    cases h
    exact r_zret C (Or.inl rfl) hK dX11_stays_43
noncomputable def s_X11_stays_b30 (a0 : Nat) (x1 : Int) (x2 : Int) (x3 : Int) (t0 : Nat) (μ : Me) : Option (Int × Me) :=
  s_X11_stays_b35 a0 x1 x2 x3 1 t0 μ
theorem w_X11_stays_b30 {Z : Zt} {fin : Int × Me} {w : (Int × Me)} (C : CX Z yX11_stays cX11_stays (some .boolean) 8 7) {a0 : Nat} {x1 : Int} {x2 : Int} {x3 : Int} {t0 : Nat} {μ : Me} (h : s_X11_stays_b30 a0 x1 x2 x3 t0 μ = some w) (hK : (fun r : Int × Me => r = fin) w) : WL Z (QN Z (some (vI fin.1)) fin.2) μ 30 [(0, vO a0), (1, vI x1), (2, vI x2), (3, vI x3)] [vO t0] := by
  unfold s_X11_stays_b30 at h
  refine r_iconst C dX11_stays_30 ?_
  refine r_goto C dX11_stays_31 (tgt := 35) (by decide) ?_
  exact w_X11_stays_b35 (fin := fin) C h hK
noncomputable def s_X11_stays (a0 : Nat) (x1 : Int) (x2 : Int) (x3 : Int) (μ : Me) : Option (Int × Me) :=
  (pI μ 9 a0 0 0).bind fun m1 =>
  (ck m1 9 a0).bind fun _ =>
  (s_X11_noSigns a0 x1 m1).bind fun q2 =>
  (if w32 q2.1 = 0 then
  (ck q2.2 9 a0).bind fun _ =>
  (s_X11_noForm a0 x2 q2.2).bind fun q43 =>
  (if w32 q43.1 = 0 then
  (ck q43.2 9 a0).bind fun _ =>
  (s_X11_noTable a0 x3 q43.2).bind fun q46 =>
  (if w32 q46.1 = 0 then
  s_X11_stays_b35 a0 x1 x2 x3 0 a0 q46.2
  else
  s_X11_stays_b30 a0 x1 x2 x3 a0 q46.2)
  else
  s_X11_stays_b30 a0 x1 x2 x3 a0 q43.2)
  else
  s_X11_stays_b30 a0 x1 x2 x3 a0 q2.2)
theorem w_X11_stays {Z : Zt} {fin : Int × Me} {w : Int × Me} (C : CX Z yX11_stays cX11_stays (some .boolean) 8 7) {a0 : Nat} {x1 : Int} {x2 : Int} {x3 : Int} {μ : Me} (h : s_X11_stays a0 x1 x2 x3 μ = some w) (hK : w = fin) : WL Z (QN Z (some (vI fin.1)) fin.2) μ 0 [(0, vO a0), (1, vI x1), (2, vI x2), (3, vI x3)] [] := by
  unfold s_X11_stays at h
  refine r_aload_n C 0 dX11_stays_0 rfl rfl ?_
  refine r_iconst C dX11_stays_1 ?_
  obtain ⟨m1, em1, h⟩ := bs h
  refine r_putI C (c := 9) (r := (RX11, TX11, 38)) rfl 0 (by decide) rfl ⟨rfl, rfl⟩ rfl em1 q1313 dX11_stays_2 ?_
  refine r_aload_n C 0 dX11_stays_5 rfl rfl ?_
  refine r_aload_n C 0 dX11_stays_6 rfl rfl ?_
  refine r_iload_n C 1 dX11_stays_7 rfl rfl ?_
  obtain ⟨u3, eu3, h⟩ := bs h
  obtain ⟨q2, eq2, h⟩ := bs h
  refine r_callV C (As := [vI x1]) (b := a0) (rest := [vO a0]) (st1 := [vI q2.1, vO a0]) (v := some (vI q2.1)) (r := (RX11, TX11, 38)) (ci := 9) rfl eu3 (m_X11_noSigns C.tr eq2) (lw_V q1673 q1675 qs77 q133 q1676) rfl hdX11_noSigns rfl rfl (Nat.le_of_ble_eq_true rfl) ⟨by decide, by decide⟩ dX11_stays_8 rfl ?_
  refine r_if_ne C dX11_stays_11 (tgt := 30) (by decide) (fun c4 => ?_) (fun c4 => ?_)
  · have h := ie_ h c4
    exact w_X11_stays_b30 (fin := fin) C h hK
  · have h := it_ h c4
    refine r_aload_n C 0 dX11_stays_14 rfl rfl ?_
    refine r_iload_n C 2 dX11_stays_15 rfl rfl ?_
    obtain ⟨u44, eu44, h⟩ := bs h
    obtain ⟨q43, eq43, h⟩ := bs h
    refine r_callV C (As := [vI x2]) (b := a0) (rest := [vO a0]) (st1 := [vI q43.1, vO a0]) (v := some (vI q43.1)) (r := (RX11, TX11, 38)) (ci := 9) rfl eu44 (m_X11_noForm C.tr eq43) (lw_V q1601 q1603 qs64 q133 q1604) rfl hdX11_noForm rfl rfl (Nat.le_of_ble_eq_true rfl) ⟨by decide, by decide⟩ dX11_stays_16 rfl ?_
    refine r_if_ne C dX11_stays_19 (tgt := 30) (by decide) (fun c45 => ?_) (fun c45 => ?_)
    · have h := ie_ h c45
      exact w_X11_stays_b30 (fin := fin) C h hK
    · have h := it_ h c45
      refine r_aload_n C 0 dX11_stays_22 rfl rfl ?_
      refine r_iload_n C 3 dX11_stays_23 rfl rfl ?_
      obtain ⟨u47, eu47, h⟩ := bs h
      obtain ⟨q46, eq46, h⟩ := bs h
      refine r_callV C (As := [vI x3]) (b := a0) (rest := [vO a0]) (st1 := [vI q46.1, vO a0]) (v := some (vI q46.1)) (r := (RX11, TX11, 38)) (ci := 9) rfl eu47 (m_X11_noTable C.tr eq46) (lw_V q1557 q1559 qs57 q133 q1560) rfl hdX11_noTable rfl rfl (Nat.le_of_ble_eq_true rfl) ⟨by decide, by decide⟩ dX11_stays_24 rfl ?_
      refine r_if_eq C dX11_stays_27 (tgt := 34) (by decide) (fun c48 => ?_) (fun c48 => ?_)
      · have h := it_ h c48
        refine r_iconst C dX11_stays_34 ?_
        exact w_X11_stays_b35 (fin := fin) C h hK
      · have h := ie_ h c48
        exact w_X11_stays_b30 (fin := fin) C h hK
theorem hdX11_stays : zhd yX11_stays 3 := by decide +kernel
theorem m_X11_stays {l : Launch} {D : va_G} {b0 : Nat} (hl : l.stackTraces = false) {a0 : Nat} {x1 : Int} {x2 : Int} {x3 : Int} {μ : Me} {w : Int × Me} (h : s_X11_stays a0 x1 x2 x3 μ = some w) : MN l D b0 yX11_stays (ws_ yX11_stays cX11_stays 7 (some .boolean)) 8 [vO a0, vI x1, vI x2, vI x3] μ (some (vI w.1)) w.2 :=
  MN.of hl (by decide +kernel) (Nat.le_of_ble_eq_true rfl) (fun Z C _ _ => w_X11_stays C h rfl)
noncomputable def s_X11_agree_b113 (a0 : Nat) (x1 : Int) (x2 : Int) (x3 : Int) (x4 : Int) (x5 : Int)  (μ : Me) : Option ((Int × Me) ⊕ (Int × Me)) :=
  (ck μ 9 a0).bind fun _ =>
  (s_X11_makes a0 x2 μ).bind fun q24 =>
  (if w32 x5 = w32 q24.1 then
  (if w32 x5 = 0 then
  some (.inl ((x4 + 1), q24.2))
  else
  (ck q24.2 9 a0).bind fun _ =>
  (s_X11_isLike a0 0 42 q24.2).bind fun q28 =>
  (if w32 q28.1 = 0 then
  some (.inr (x4, q28.2))
  else
  some (.inl ((x4 + 1), q28.2))))
  else
  some (.inr (x4, q24.2)))
theorem w_X11_agree_b113 {Z : Zt} {fin : Int × Me} {w : ((Int × Me) ⊕ (Int × Me))} (C : CX Z yX11_agree cX11_agree (some .int) 8 7) {a0 : Nat} {x1 : Int} {x2 : Int} {x3 : Int} {x4 : Int} {x5 : Int}  {μ : Me} (h : s_X11_agree_b113 a0 x1 x2 x3 x4 x5 μ = some w) (hK : (Sum.elim (fun s : Int × Me => WL Z (QN Z (some (vI fin.1)) fin.2) s.2 62 [(0, vO a0), (1, vI x1), (2, vI x2), (3, vI x3), (4, vI s.1)] []) (fun r : Int × Me => r = fin)) w) : WL Z (QN Z (some (vI fin.1)) fin.2) μ 113 [(0, vO a0), (1, vI x1), (2, vI x2), (3, vI x3), (4, vI x4), (5, vI x5)] [] := by
  unfold s_X11_agree_b113 at h
  refine r_aload_n C 0 dX11_agree_113 rfl rfl ?_
  refine r_iload_n C 2 dX11_agree_114 rfl rfl ?_
  obtain ⟨u25, eu25, h⟩ := bs h
  obtain ⟨q24, eq24, h⟩ := bs h
  refine r_callV C (As := [vI x2]) (b := a0) (rest := []) (st1 := [vI q24.1]) (v := some (vI q24.1)) (r := (RX11, TX11, 38)) (ci := 9) rfl eu25 (m_X11_makes C.tr eq24) (lw_V q1677 q1679 qs78 q133 q1680) rfl hdX11_makes rfl rfl (Nat.le_of_ble_eq_true rfl) ⟨by decide, by decide⟩ dX11_agree_115 rfl ?_
  refine r_istore C [(6, vI q24.1), (0, vO a0), (1, vI x1), (2, vI x2), (3, vI x3), (4, vI x4), (5, vI x5)] dX11_agree_118 (by decide) rfl ?_
  refine r_iload C 6 dX11_agree_120 rfl ?_
  refine r_iload C 0 dX11_agree_122 rfl ?_
  refine r_icmp_ne C dX11_agree_124 (tgt := 142) (by decide) (fun c26 => ?_) (fun c26 => ?_)
  · have h := ie_ h c26
    refine r_iload C 5 dX11_agree_142 rfl ?_
    cases h
    exact r_iret C hK dX11_agree_144
  · have h := it_ h c26
    refine r_iload C 6 dX11_agree_127 rfl ?_
    refine r_if_eq C dX11_agree_129 (tgt := 145) (by decide) (fun c27 => ?_) (fun c27 => ?_)
    · have h := it_ h c27
      refine r_iinc C 5 [(4, vI (x4 + 1)), (6, vI q24.1), (0, vO a0), (1, vI x1), (2, vI x2), (3, vI x3), (5, vI x5)] dX11_agree_145 rfl (by decide) rfl ?_
      refine r_goto C dX11_agree_148 (tgt := 62) (by decide) ?_
      cases h
      refine r_sub [2, 3, 4, 5, 0] rfl ?_
      exact hK
    · have h := ie_ h c27
      refine r_aload_n C 1 dX11_agree_132 rfl rfl ?_
      refine r_iconst C dX11_agree_133 ?_
      refine r_bipush C dX11_agree_134 (by decide) ?_
      obtain ⟨u29, eu29, h⟩ := bs h
      obtain ⟨q28, eq28, h⟩ := bs h
      refine r_callV C (As := [vI 0, vI 42]) (b := a0) (rest := []) (st1 := [vI q28.1]) (v := some (vI q28.1)) (r := (RX11, TX11, 38)) (ci := 9) rfl eu29 (m_X11_isLike C.tr eq28) (lw_V q1653 q1655 qs75 q133 q1656) rfl hdX11_isLike rfl rfl (Nat.le_of_ble_eq_true rfl) ⟨by decide, by decide⟩ dX11_agree_136 rfl ?_
      refine r_if_ne C dX11_agree_139 (tgt := 145) (by decide) (fun c30 => ?_) (fun c30 => ?_)
      · have h := ie_ h c30
        refine r_iinc C 5 [(4, vI (x4 + 1)), (6, vI q24.1), (0, vO a0), (1, vI x1), (2, vI x2), (3, vI x3), (5, vI x5)] dX11_agree_145 rfl (by decide) rfl ?_
        refine r_goto C dX11_agree_148 (tgt := 62) (by decide) ?_
        cases h
        refine r_sub [2, 3, 4, 5, 0] rfl ?_
        exact hK
      · have h := it_ h c30
        refine r_iload C 5 dX11_agree_142 rfl ?_
        cases h
        exact r_iret C hK dX11_agree_144
noncomputable def s_X11_agree_l62_st (a0 : Nat) (x1 : Int) (x2 : Int) (x3 : Int) (x4 : Int) (μ : Me) : Option ((Int × Me) ⊕ (Int × Me)) :=
  (gR μ 9 a0 1).bind fun v13 =>
  (aI μ 101 v13 1).bind fun v14 =>
  (if w32 v14 ≤ w32 x4 then
  some (.inr ((-1), μ))
  else
  (ck μ 9 a0).bind fun _ =>
  (s_X11_degreeOf a0 x4 μ).bind fun q16 =>
  (if w32 q16.1 = w32 x3 then
  (ck q16.2 9 a0).bind fun _ =>
  (s_X11_takes a0 44 x4 q16.2).bind fun q19 =>
  (ck q19 9 a0).bind fun _ =>
  (s_X11_makes a0 x1 q19).bind fun q21 =>
  (if w32 q21.1 = 0 then
  s_X11_agree_b113 a0 x1 x2 x3 x4 q21.1 q21.2
  else
  (ck q21.2 9 a0).bind fun _ =>
  (s_X11_copies a0 0 42 q21.2).bind fun q31 =>
  s_X11_agree_b113 a0 x1 x2 x3 x4 q21.1 q31)
  else
  some (.inl ((x4 + 1), q16.2))))
theorem w_X11_agree_l62_st {Z : Zt} {fin : Int × Me} {w : ((Int × Me) ⊕ (Int × Me))} (C : CX Z yX11_agree cX11_agree (some .int) 8 7) {a0 : Nat} {x1 : Int} {x2 : Int} {x3 : Int} {x4 : Int} {μ : Me} (h : s_X11_agree_l62_st a0 x1 x2 x3 x4 μ = some w) (hK : (Sum.elim (fun s : Int × Me => WL Z (QN Z (some (vI fin.1)) fin.2) s.2 62 [(0, vO a0), (1, vI x1), (2, vI x2), (3, vI x3), (4, vI s.1)] []) (fun r : Int × Me => r = fin)) w) : WL Z (QN Z (some (vI fin.1)) fin.2) μ 62 [(0, vO a0), (1, vI x1), (2, vI x2), (3, vI x3), (4, vI x4)] [] := by
  unfold s_X11_agree_l62_st at h
  refine r_iload C 4 dX11_agree_62 rfl ?_
  refine r_aload_n C 0 dX11_agree_64 rfl rfl ?_
  obtain ⟨v13, ev13, h⟩ := bs h
  refine r_getR C (c := 9) (r := (RX11, TX11, 38)) rfl 1 (by decide) rfl ev13 q1314 dX11_agree_65 ?_
  refine r_iconst C dX11_agree_68 ?_
  obtain ⟨v14, ev14, h⟩ := bs h
  refine r_iald C ev14 dX11_agree_69 ?_
  refine r_icmp_ge C dX11_agree_70 (tgt := 151) (by decide) (fun c15 => ?_) (fun c15 => ?_)
  · have h := it_ h c15
    refine r_iconst C dX11_agree_151 ?_
    cases h
    exact r_iret C hK dX11_agree_152
  · have h := ie_ h c15
    refine r_aload_n C 0 dX11_agree_73 rfl rfl ?_
    refine r_iload C 4 dX11_agree_74 rfl ?_
    obtain ⟨u17, eu17, h⟩ := bs h
    obtain ⟨q16, eq16, h⟩ := bs h
    refine r_callV C (As := [vI x4]) (b := a0) (rest := []) (st1 := [vI q16.1]) (v := some (vI q16.1)) (r := (RX11, TX11, 38)) (ci := 9) rfl eu17 (m_X11_degreeOf C.tr eq16) (lw_V q1605 q1607 qs65 q133 q1608) rfl hdX11_degreeOf rfl rfl (Nat.le_of_ble_eq_true rfl) ⟨by decide, by decide⟩ dX11_agree_76 rfl ?_
    refine r_iload_n C 3 dX11_agree_79 rfl rfl ?_
    refine r_icmp_eq C dX11_agree_80 (tgt := 86) (by decide) (fun c18 => ?_) (fun c18 => ?_)
    · have h := it_ h c18
      refine r_aload_n C 0 dX11_agree_86 rfl rfl ?_
      refine r_bipush C dX11_agree_87 (by decide) ?_
      refine r_iload C 4 dX11_agree_89 rfl ?_
      obtain ⟨u20, eu20, h⟩ := bs h
      obtain ⟨q19, eq19, h⟩ := bs h
      refine r_callV C (As := [vI 44, vI x4]) (b := a0) (rest := []) (st1 := []) (v := none) (r := (RX11, TX11, 38)) (ci := 9) rfl eu20 (m_X11_takes C.tr eq19) (lw_V q1617 q1619 qs67 q133 q1620) rfl hdX11_takes rfl rfl (Nat.le_of_ble_eq_true rfl) ⟨by decide, by decide⟩ dX11_agree_91 rfl ?_
      refine r_aload_n C 0 dX11_agree_94 rfl rfl ?_
      refine r_iload_n C 1 dX11_agree_95 rfl rfl ?_
      obtain ⟨u22, eu22, h⟩ := bs h
      obtain ⟨q21, eq21, h⟩ := bs h
      refine r_callV C (As := [vI x1]) (b := a0) (rest := []) (st1 := [vI q21.1]) (v := some (vI q21.1)) (r := (RX11, TX11, 38)) (ci := 9) rfl eu22 (m_X11_makes C.tr eq21) (lw_V q1677 q1679 qs78 q133 q1680) rfl hdX11_makes rfl rfl (Nat.le_of_ble_eq_true rfl) ⟨by decide, by decide⟩ dX11_agree_96 rfl ?_
      refine r_istore C [(5, vI q21.1), (0, vO a0), (1, vI x1), (2, vI x2), (3, vI x3), (4, vI x4)] dX11_agree_99 (by decide) rfl ?_
      refine r_iload C 0 dX11_agree_101 rfl ?_
      refine r_if_eq C dX11_agree_103 (tgt := 113) (by decide) (fun c23 => ?_) (fun c23 => ?_)
      · have h := it_ h c23
        refine r_sub [1, 2, 3, 4, 5, 0] rfl ?_
        exact w_X11_agree_b113 (fin := fin) C h hK
      · have h := ie_ h c23
        refine r_aload_n C 1 dX11_agree_106 rfl rfl ?_
        refine r_iconst C dX11_agree_107 ?_
        refine r_bipush C dX11_agree_108 (by decide) ?_
        obtain ⟨u32, eu32, h⟩ := bs h
        obtain ⟨q31, eq31, h⟩ := bs h
        refine r_callV C (As := [vI 0, vI 42]) (b := a0) (rest := []) (st1 := []) (v := none) (r := (RX11, TX11, 38)) (ci := 9) rfl eu32 (m_X11_copies C.tr eq31) (lw_V q1689 q1691 qs81 q133 q1692) rfl hdX11_copies rfl rfl (Nat.le_of_ble_eq_true rfl) ⟨by decide, by decide⟩ dX11_agree_110 rfl ?_
        refine r_sub [1, 2, 3, 4, 5, 0] rfl ?_
        exact w_X11_agree_b113 (fin := fin) C h hK
    · have h := ie_ h c18
      refine r_goto C dX11_agree_83 (tgt := 145) (by decide) ?_
      refine r_iinc C 4 [(4, vI (x4 + 1)), (0, vO a0), (1, vI x1), (2, vI x2), (3, vI x3)] dX11_agree_145 rfl (by decide) rfl ?_
      refine r_goto C dX11_agree_148 (tgt := 62) (by decide) ?_
      cases h
      refine r_sub [1, 2, 3, 4, 0] rfl ?_
      exact hK
noncomputable def s_X11_agree_l62 (a0 : Nat) (x1 : Int) (x2 : Int) (x3 : Int) (x4 : Int) (μ : Me) : Option (Int × Me) :=
  whileO (fun s : Int × Me => s_X11_agree_l62_st a0 x1 x2 x3 s.1 s.2) (x4, μ)
theorem e_X11_agree_l62 (a0 : Nat) (x1 : Int) (x2 : Int) (x3 : Int) (x4 : Int) (μ : Me) : s_X11_agree_l62 a0 x1 x2 x3 x4 μ = (s_X11_agree_l62_st a0 x1 x2 x3 x4 μ).bind fun x => x.elim (fun s : Int × Me => s_X11_agree_l62 a0 x1 x2 x3 s.1 s.2) some := whileO_eq _ _
theorem w_X11_agree_l62 {Z : Zt} {fin : Int × Me} {w : (Int × Me)} (C : CX Z yX11_agree cX11_agree (some .int) 8 7) {a0 : Nat} {x1 : Int} {x2 : Int} {x3 : Int} {x4 : Int} {μ : Me} (h : s_X11_agree_l62 a0 x1 x2 x3 x4 μ = some w) (hK : (fun r : Int × Me => r = fin) w) : WL Z (QN Z (some (vI fin.1)) fin.2) μ 62 [(0, vO a0), (1, vI x1), (2, vI x2), (3, vI x3), (4, vI x4)] [] := by
  refine whileO_walk (w := w) (fun s : Int × Me => WL Z (QN Z (some (vI fin.1)) fin.2) s.2 62 [(0, vO a0), (1, vI x1), (2, vI x2), (3, vI x3), (4, vI s.1)] []) (fun s v h2 hi hr => ?_) (x4, μ) h
  refine w_X11_agree_l62_st (fin := fin) C h2 ?_
  cases v with
  | inl s2 => exact hi s2 rfl
  | inr r => have e := hr r rfl; subst e; exact hK
noncomputable def s_X11_agree_b50 (a0 : Nat) (x1 : Int) (x2 : Int) (x3 : Int) (t0 : Int) (t1 : Nat) (μ : Me) : Option (Int × Me) :=
  (ck μ 9 t1).bind fun _ =>
  (s_X11_throwsIf t1 t0 2 μ).bind fun q10 =>
  (if w32 q10.1 = 0 then
  s_X11_agree_l62 a0 x1 x2 x3 0 q10.2
  else
  some (0, q10.2))
theorem w_X11_agree_b50 {Z : Zt} {fin : Int × Me} {w : (Int × Me)} (C : CX Z yX11_agree cX11_agree (some .int) 8 7) {a0 : Nat} {x1 : Int} {x2 : Int} {x3 : Int} {t0 : Int} {t1 : Nat} {μ : Me} (h : s_X11_agree_b50 a0 x1 x2 x3 t0 t1 μ = some w) (hK : (fun r : Int × Me => r = fin) w) : WL Z (QN Z (some (vI fin.1)) fin.2) μ 50 [(0, vO a0), (1, vI x1), (2, vI x2), (3, vI x3)] [vI t0, vO t1] := by
  unfold s_X11_agree_b50 at h
  refine r_iconst C dX11_agree_50 ?_
  obtain ⟨u11, eu11, h⟩ := bs h
  obtain ⟨q10, eq10, h⟩ := bs h
  refine r_callV C (As := [vI t0, vI 2]) (b := t1) (rest := []) (st1 := [vI q10.1]) (v := some (vI q10.1)) (r := (RX11, TX11, 38)) (ci := 9) rfl eu11 (m_X11_throwsIf C.tr eq10) (lw_V q1500 q1502 qs49 q133 q1503) rfl hdX11_throwsIf rfl rfl (Nat.le_of_ble_eq_true rfl) ⟨by decide, by decide⟩ dX11_agree_51 rfl ?_
  refine r_if_eq C dX11_agree_54 (tgt := 59) (by decide) (fun c12 => ?_) (fun c12 => ?_)
  · have h := it_ h c12
    refine r_iconst C dX11_agree_59 ?_
    refine r_istore C [(4, vI 0), (0, vO a0), (1, vI x1), (2, vI x2), (3, vI x3)] dX11_agree_60 (by decide) rfl ?_
    refine r_sub [1, 2, 3, 4, 0] rfl ?_
    exact w_X11_agree_l62 (fin := fin) C h hK
  · have h := ie_ h c12
    refine r_iconst C dX11_agree_57 ?_
    cases h
    exact r_iret C hK dX11_agree_58
noncomputable def s_X11_agree_b27 (a0 : Nat) (x1 : Int) (x2 : Int) (x3 : Int) (t0 : Int) (t1 : Nat) (μ : Me) : Option (Int × Me) :=
  (ck μ 9 t1).bind fun _ =>
  (s_X11_throwsIf t1 t0 1 μ).bind fun q5 =>
  (if w32 q5.1 = 0 then
  (s_X11_in x3 0 8 q5.2).bind fun q8 =>
  (if w32 q8.1 = 0 then
  s_X11_agree_b50 a0 x1 x2 x3 1 a0 q8.2
  else
  s_X11_agree_b50 a0 x1 x2 x3 0 a0 q8.2)
  else
  some (0, q5.2))
theorem w_X11_agree_b27 {Z : Zt} {fin : Int × Me} {w : (Int × Me)} (C : CX Z yX11_agree cX11_agree (some .int) 8 7) {a0 : Nat} {x1 : Int} {x2 : Int} {x3 : Int} {t0 : Int} {t1 : Nat} {μ : Me} (h : s_X11_agree_b27 a0 x1 x2 x3 t0 t1 μ = some w) (hK : (fun r : Int × Me => r = fin) w) : WL Z (QN Z (some (vI fin.1)) fin.2) μ 27 [(0, vO a0), (1, vI x1), (2, vI x2), (3, vI x3)] [vI t0, vO t1] := by
  unfold s_X11_agree_b27 at h
  refine r_iconst C dX11_agree_27 ?_
  obtain ⟨u6, eu6, h⟩ := bs h
  obtain ⟨q5, eq5, h⟩ := bs h
  refine r_callV C (As := [vI t0, vI 1]) (b := t1) (rest := []) (st1 := [vI q5.1]) (v := some (vI q5.1)) (r := (RX11, TX11, 38)) (ci := 9) rfl eu6 (m_X11_throwsIf C.tr eq5) (lw_V q1500 q1502 qs49 q133 q1503) rfl hdX11_throwsIf rfl rfl (Nat.le_of_ble_eq_true rfl) ⟨by decide, by decide⟩ dX11_agree_28 rfl ?_
  refine r_if_ne C dX11_agree_31 (tgt := 57) (by decide) (fun c7 => ?_) (fun c7 => ?_)
  · have h := ie_ h c7
    refine r_iconst C dX11_agree_57 ?_
    cases h
    exact r_iret C hK dX11_agree_58
  · have h := it_ h c7
    refine r_aload_n C 0 dX11_agree_34 rfl rfl ?_
    refine r_iload_n C 3 dX11_agree_35 rfl rfl ?_
    refine r_iconst C dX11_agree_36 ?_
    refine r_bipush C dX11_agree_37 (by decide) ?_
    obtain ⟨q8, eq8, h⟩ := bs h
    refine r_callS C (As := [vI x3, vI 0, vI 8]) (rest := [vO a0]) (st1 := [vI q8.1, vO a0]) (v := some (vI q8.1)) (m_X11_in C.tr eq8) (lw_S q1512 q1513 q133 q1514) hdX11_in rfl rfl (Nat.le_of_ble_eq_true rfl) ⟨by decide, by decide⟩ dX11_agree_39 rfl ?_
    refine r_if_ne C dX11_agree_42 (tgt := 49) (by decide) (fun c9 => ?_) (fun c9 => ?_)
    · have h := ie_ h c9
      refine r_iconst C dX11_agree_49 ?_
      exact w_X11_agree_b50 (fin := fin) C h hK
    · have h := it_ h c9
      refine r_iconst C dX11_agree_45 ?_
      refine r_goto C dX11_agree_46 (tgt := 50) (by decide) ?_
      exact w_X11_agree_b50 (fin := fin) C h hK
noncomputable def s_X11_agree_b22 (a0 : Nat) (x1 : Int) (x2 : Int) (x3 : Int) (t0 : Nat) (μ : Me) : Option (Int × Me) :=
  s_X11_agree_b27 a0 x1 x2 x3 1 t0 μ
theorem w_X11_agree_b22 {Z : Zt} {fin : Int × Me} {w : (Int × Me)} (C : CX Z yX11_agree cX11_agree (some .int) 8 7) {a0 : Nat} {x1 : Int} {x2 : Int} {x3 : Int} {t0 : Nat} {μ : Me} (h : s_X11_agree_b22 a0 x1 x2 x3 t0 μ = some w) (hK : (fun r : Int × Me => r = fin) w) : WL Z (QN Z (some (vI fin.1)) fin.2) μ 22 [(0, vO a0), (1, vI x1), (2, vI x2), (3, vI x3)] [vO t0] := by
  unfold s_X11_agree_b22 at h
  refine r_iconst C dX11_agree_22 ?_
  refine r_goto C dX11_agree_23 (tgt := 27) (by decide) ?_
  exact w_X11_agree_b27 (fin := fin) C h hK
noncomputable def s_X11_agree (a0 : Nat) (x1 : Int) (x2 : Int) (x3 : Int) (μ : Me) : Option (Int × Me) :=
  (pI μ 9 a0 0 0).bind fun m1 =>
  (ck m1 9 a0).bind fun _ =>
  (s_X11_noSigns a0 x1 m1).bind fun q2 =>
  (if w32 q2.1 = 0 then
  (ck q2.2 9 a0).bind fun _ =>
  (s_X11_noSigns a0 x2 q2.2).bind fun q33 =>
  (if w32 q33.1 = 0 then
  s_X11_agree_b27 a0 x1 x2 x3 0 a0 q33.2
  else
  s_X11_agree_b22 a0 x1 x2 x3 a0 q33.2)
  else
  s_X11_agree_b22 a0 x1 x2 x3 a0 q2.2)
theorem w_X11_agree {Z : Zt} {fin : Int × Me} {w : Int × Me} (C : CX Z yX11_agree cX11_agree (some .int) 8 7) {a0 : Nat} {x1 : Int} {x2 : Int} {x3 : Int} {μ : Me} (h : s_X11_agree a0 x1 x2 x3 μ = some w) (hK : w = fin) : WL Z (QN Z (some (vI fin.1)) fin.2) μ 0 [(0, vO a0), (1, vI x1), (2, vI x2), (3, vI x3)] [] := by
  unfold s_X11_agree at h
  refine r_aload_n C 0 dX11_agree_0 rfl rfl ?_
  refine r_iconst C dX11_agree_1 ?_
  obtain ⟨m1, em1, h⟩ := bs h
  refine r_putI C (c := 9) (r := (RX11, TX11, 38)) rfl 0 (by decide) rfl ⟨rfl, rfl⟩ rfl em1 q1313 dX11_agree_2 ?_
  refine r_aload_n C 0 dX11_agree_5 rfl rfl ?_
  refine r_aload_n C 0 dX11_agree_6 rfl rfl ?_
  refine r_iload_n C 1 dX11_agree_7 rfl rfl ?_
  obtain ⟨u3, eu3, h⟩ := bs h
  obtain ⟨q2, eq2, h⟩ := bs h
  refine r_callV C (As := [vI x1]) (b := a0) (rest := [vO a0]) (st1 := [vI q2.1, vO a0]) (v := some (vI q2.1)) (r := (RX11, TX11, 38)) (ci := 9) rfl eu3 (m_X11_noSigns C.tr eq2) (lw_V q1673 q1675 qs77 q133 q1676) rfl hdX11_noSigns rfl rfl (Nat.le_of_ble_eq_true rfl) ⟨by decide, by decide⟩ dX11_agree_8 rfl ?_
  refine r_if_ne C dX11_agree_11 (tgt := 22) (by decide) (fun c4 => ?_) (fun c4 => ?_)
  · have h := ie_ h c4
    exact w_X11_agree_b22 (fin := fin) C h hK
  · have h := it_ h c4
    refine r_aload_n C 0 dX11_agree_14 rfl rfl ?_
    refine r_iload_n C 2 dX11_agree_15 rfl rfl ?_
    obtain ⟨u34, eu34, h⟩ := bs h
    obtain ⟨q33, eq33, h⟩ := bs h
    refine r_callV C (As := [vI x2]) (b := a0) (rest := [vO a0]) (st1 := [vI q33.1, vO a0]) (v := some (vI q33.1)) (r := (RX11, TX11, 38)) (ci := 9) rfl eu34 (m_X11_noSigns C.tr eq33) (lw_V q1673 q1675 qs77 q133 q1676) rfl hdX11_noSigns rfl rfl (Nat.le_of_ble_eq_true rfl) ⟨by decide, by decide⟩ dX11_agree_16 rfl ?_
    refine r_if_eq C dX11_agree_19 (tgt := 26) (by decide) (fun c35 => ?_) (fun c35 => ?_)
    · have h := it_ h c35
      refine r_iconst C dX11_agree_26 ?_
      exact w_X11_agree_b27 (fin := fin) C h hK
    · have h := ie_ h c35
      exact w_X11_agree_b22 (fin := fin) C h hK
theorem hdX11_agree : zhd yX11_agree 3 := by decide +kernel
theorem m_X11_agree {l : Launch} {D : va_G} {b0 : Nat} (hl : l.stackTraces = false) {a0 : Nat} {x1 : Int} {x2 : Int} {x3 : Int} {μ : Me} {w : Int × Me} (h : s_X11_agree a0 x1 x2 x3 μ = some w) : MN l D b0 yX11_agree (ws_ yX11_agree cX11_agree 7 (some .int)) 8 [vO a0, vI x1, vI x2, vI x3] μ (some (vI w.1)) w.2 :=
  MN.of hl (by decide +kernel) (Nat.le_of_ble_eq_true rfl) (fun Z C _ _ => w_X11_agree C h rfl)
noncomputable def s_X11_waysOf_l152_st (a0 : Nat) (x1 : Int) (x2 : Int) (y4 : Int) (x6 : Int) (μ : Me) : Option ((Int × Int × Me) ⊕ (Int × Me)) :=
  (if w32 x2 < w32 x6 then
  some (.inr (y4, μ))
  else
  (gR μ 9 a0 21).bind fun v5 =>
  (aJ μ 103 v5 ((97 * x6) + x1)).bind fun v6 =>
  some (.inl ((y4 + v6), (x6 + 1), μ)))
theorem w_X11_waysOf_l152_st {Z : Zt} {fin : Int × Me} {w : ((Int × Int × Me) ⊕ (Int × Me))} (C : CX Z yX11_waysOf cX11_waysOf (some .long) 1 7) {a0 : Nat} {x1 : Int} {x2 : Int} {y4 : Int} {x6 : Int} {μ : Me} (h : s_X11_waysOf_l152_st a0 x1 x2 y4 x6 μ = some w) (hK : (Sum.elim (fun s : Int × Int × Me => WL Z (QN Z (some (vJ fin.1)) fin.2) s.2.2 152 [(0, vO a0), (1, vI x1), (2, vI x2), (4, vJ s.1), (6, vI s.2.1)] []) (fun r : Int × Me => r = fin)) w) : WL Z (QN Z (some (vJ fin.1)) fin.2) μ 152 [(0, vO a0), (1, vI x1), (2, vI x2), (4, vJ y4), (6, vI x6)] [] := by
  unfold s_X11_waysOf_l152_st at h
  refine r_iload C 4 dX11_waysOf_152 rfl ?_
  refine r_iload_n C 2 dX11_waysOf_154 rfl rfl ?_
  refine r_icmp_gt C dX11_waysOf_155 (tgt := 181) (by decide) (fun c4 => ?_) (fun c4 => ?_)
  · have h := it_ h c4
    refine r_lload C 3 dX11_waysOf_181 rfl ?_
    cases h
    exact r_lret C hK dX11_waysOf_183
  · have h := ie_ h c4
    refine r_lload C 3 dX11_waysOf_158 rfl ?_
    refine r_aload_n C 0 dX11_waysOf_160 rfl rfl ?_
    obtain ⟨v5, ev5, h⟩ := bs h
    refine r_getR C (c := 9) (r := (RX11, TX11, 38)) rfl 21 (by decide) rfl ev5 q1334 dX11_waysOf_161 ?_
    refine r_bipush C dX11_waysOf_164 (by decide) ?_
    refine r_iload C 4 dX11_waysOf_166 rfl ?_
    refine r_imul C dX11_waysOf_168 ?_
    refine r_iload_n C 1 dX11_waysOf_169 rfl rfl ?_
    refine r_iadd C dX11_waysOf_170 ?_
    obtain ⟨v6, ev6, h⟩ := bs h
    refine r_lald C ev6 dX11_waysOf_171 ?_
    refine r_ladd C dX11_waysOf_172 ?_
    refine r_lstore C [(4, vJ (y4 + v6)), (0, vO a0), (1, vI x1), (2, vI x2), (6, vI x6)] dX11_waysOf_173 (by decide) rfl ?_
    refine r_iinc C 4 [(6, vI (x6 + 1)), (4, vJ (y4 + v6)), (0, vO a0), (1, vI x1), (2, vI x2)] dX11_waysOf_175 rfl (by decide) rfl ?_
    refine r_goto C dX11_waysOf_178 (tgt := 152) (by decide) ?_
    cases h
    refine r_sub [2, 3, 4, 1, 0] rfl ?_
    exact hK
noncomputable def s_X11_waysOf_l152 (a0 : Nat) (x1 : Int) (x2 : Int) (y4 : Int) (x6 : Int) (μ : Me) : Option (Int × Me) :=
  whileO (fun s : Int × Int × Me => s_X11_waysOf_l152_st a0 x1 x2 s.1 s.2.1 s.2.2) (y4, x6, μ)
theorem e_X11_waysOf_l152 (a0 : Nat) (x1 : Int) (x2 : Int) (y4 : Int) (x6 : Int) (μ : Me) : s_X11_waysOf_l152 a0 x1 x2 y4 x6 μ = (s_X11_waysOf_l152_st a0 x1 x2 y4 x6 μ).bind fun x => x.elim (fun s : Int × Int × Me => s_X11_waysOf_l152 a0 x1 x2 s.1 s.2.1 s.2.2) some := whileO_eq _ _
theorem w_X11_waysOf_l152 {Z : Zt} {fin : Int × Me} {w : (Int × Me)} (C : CX Z yX11_waysOf cX11_waysOf (some .long) 1 7) {a0 : Nat} {x1 : Int} {x2 : Int} {y4 : Int} {x6 : Int} {μ : Me} (h : s_X11_waysOf_l152 a0 x1 x2 y4 x6 μ = some w) (hK : (fun r : Int × Me => r = fin) w) : WL Z (QN Z (some (vJ fin.1)) fin.2) μ 152 [(0, vO a0), (1, vI x1), (2, vI x2), (4, vJ y4), (6, vI x6)] [] := by
  refine whileO_walk (w := w) (fun s : Int × Int × Me => WL Z (QN Z (some (vJ fin.1)) fin.2) s.2.2 152 [(0, vO a0), (1, vI x1), (2, vI x2), (4, vJ s.1), (6, vI s.2.1)] []) (fun s v h2 hi hr => ?_) (y4, x6, μ) h
  refine w_X11_waysOf_l152_st (fin := fin) C h2 ?_
  cases v with
  | inl s2 => exact hi s2 rfl
  | inr r => have e := hr r rfl; subst e; exact hK
noncomputable def s_X11_waysOf_b146 (a0 : Nat) (x1 : Int) (x2 : Int)  (μ : Me) : Option (Int × Me) :=
  s_X11_waysOf_l152 a0 x1 x2 0 0 μ
theorem w_X11_waysOf_b146 {Z : Zt} {fin : Int × Me} {w : (Int × Me)} (C : CX Z yX11_waysOf cX11_waysOf (some .long) 1 7) {a0 : Nat} {x1 : Int} {x2 : Int}  {μ : Me} (h : s_X11_waysOf_b146 a0 x1 x2 μ = some w) (hK : (fun r : Int × Me => r = fin) w) : WL Z (QN Z (some (vJ fin.1)) fin.2) μ 146 [(0, vO a0), (1, vI x1), (2, vI x2)] [] := by
  unfold s_X11_waysOf_b146 at h
  refine r_lconst (v := 0) C dX11_waysOf_146 (by decide) ?_
  refine r_lstore C [(4, vJ 0), (0, vO a0), (1, vI x1), (2, vI x2)] dX11_waysOf_147 (by decide) rfl ?_
  refine r_iconst C dX11_waysOf_149 ?_
  refine r_istore C [(6, vI 0), (4, vJ 0), (0, vO a0), (1, vI x1), (2, vI x2)] dX11_waysOf_150 (by decide) rfl ?_
  refine r_sub [2, 3, 4, 1, 0] rfl ?_
  exact w_X11_waysOf_l152 (fin := fin) C h hK
noncomputable def s_X11_waysOf_l88_st (a0 : Nat) (x1 : Int) (x2 : Int) (x3 : Int) (x4 : Int) (x5 : Int) (x6 : Int) (μ : Me) : Option ((Int × Me) ⊕ ((Int × Me) ⊕ ((Int × Me) ⊕ (Int × Me)))) :=
  (if w32 x1 < w32 x6 then
  some (.inr (.inl ((x5 + 1), μ)))
  else
  (gR μ 9 a0 21).bind fun v9 =>
  (aJ μ 103 v9 ((97 * x5) + x6)).bind fun v10 =>
  (gR μ 9 a0 21).bind fun v11 =>
  (aJ μ 103 v11 (((97 * (x5 - 1)) + x6) - x4)).bind fun v12 =>
  (uJ μ v9 ((97 * x5) + x6) (v10 + v12)).bind fun m13 =>
  some (.inl ((x6 + 1), m13)))
theorem w_X11_waysOf_l88_st {Z : Zt} {fin : Int × Me} {w : ((Int × Me) ⊕ ((Int × Me) ⊕ ((Int × Me) ⊕ (Int × Me))))} (C : CX Z yX11_waysOf cX11_waysOf (some .long) 1 7) {a0 : Nat} {x1 : Int} {x2 : Int} {x3 : Int} {x4 : Int} {x5 : Int} {x6 : Int} {μ : Me} (h : s_X11_waysOf_l88_st a0 x1 x2 x3 x4 x5 x6 μ = some w) (hK : (Sum.elim (fun s : Int × Me => WL Z (QN Z (some (vJ fin.1)) fin.2) s.2 88 [(0, vO a0), (1, vI x1), (2, vI x2), (3, vI x3), (4, vI x4), (5, vI x5), (6, vI s.1)] []) (Sum.elim (fun s : Int × Me => WL Z (QN Z (some (vJ fin.1)) fin.2) s.2 78 [(0, vO a0), (1, vI x1), (2, vI x2), (3, vI x3), (4, vI x4), (5, vI s.1)] []) (Sum.elim (fun s : Int × Me => WL Z (QN Z (some (vJ fin.1)) fin.2) s.2 69 [(0, vO a0), (1, vI x1), (2, vI x2), (3, vI x3), (4, vI s.1)] []) (fun r : Int × Me => r = fin)))) w) : WL Z (QN Z (some (vJ fin.1)) fin.2) μ 88 [(0, vO a0), (1, vI x1), (2, vI x2), (3, vI x3), (4, vI x4), (5, vI x5), (6, vI x6)] [] := by
  unfold s_X11_waysOf_l88_st at h
  refine r_iload C 6 dX11_waysOf_88 rfl ?_
  refine r_iload_n C 1 dX11_waysOf_90 rfl rfl ?_
  refine r_icmp_gt C dX11_waysOf_91 (tgt := 134) (by decide) (fun c8 => ?_) (fun c8 => ?_)
  · have h := it_ h c8
    refine r_iinc C 5 [(5, vI (x5 + 1)), (0, vO a0), (1, vI x1), (2, vI x2), (3, vI x3), (4, vI x4), (6, vI x6)] dX11_waysOf_134 rfl (by decide) rfl ?_
    refine r_goto C dX11_waysOf_137 (tgt := 78) (by decide) ?_
    cases h
    refine r_sub [1, 2, 3, 4, 5, 0] rfl ?_
    exact hK
  · have h := ie_ h c8
    refine r_aload_n C 0 dX11_waysOf_94 rfl rfl ?_
    obtain ⟨v9, ev9, h⟩ := bs h
    refine r_getR C (c := 9) (r := (RX11, TX11, 38)) rfl 21 (by decide) rfl ev9 q1334 dX11_waysOf_95 ?_
    refine r_bipush C dX11_waysOf_98 (by decide) ?_
    refine r_iload C 5 dX11_waysOf_100 rfl ?_
    refine r_imul C dX11_waysOf_102 ?_
    refine r_iload C 6 dX11_waysOf_103 rfl ?_
    refine r_iadd C dX11_waysOf_105 ?_
    refine r_dup2 C dX11_waysOf_106 rfl rfl ?_
    obtain ⟨v10, ev10, h⟩ := bs h
    refine r_lald C ev10 dX11_waysOf_107 ?_
    refine r_aload_n C 0 dX11_waysOf_108 rfl rfl ?_
    obtain ⟨v11, ev11, h⟩ := bs h
    refine r_getR C (c := 9) (r := (RX11, TX11, 38)) rfl 21 (by decide) rfl ev11 q1334 dX11_waysOf_109 ?_
    refine r_bipush C dX11_waysOf_112 (by decide) ?_
    refine r_iload C 5 dX11_waysOf_114 rfl ?_
    refine r_iconst C dX11_waysOf_116 ?_
    refine r_isub C dX11_waysOf_117 ?_
    refine r_imul C dX11_waysOf_118 ?_
    refine r_iload C 6 dX11_waysOf_119 rfl ?_
    refine r_iadd C dX11_waysOf_121 ?_
    refine r_iload C 4 dX11_waysOf_122 rfl ?_
    refine r_isub C dX11_waysOf_124 ?_
    obtain ⟨v12, ev12, h⟩ := bs h
    refine r_lald C ev12 dX11_waysOf_125 ?_
    refine r_ladd C dX11_waysOf_126 ?_
    obtain ⟨m13, em13, h⟩ := bs h
    refine r_last C em13 dX11_waysOf_127 ?_
    refine r_iinc C 6 [(6, vI (x6 + 1)), (0, vO a0), (1, vI x1), (2, vI x2), (3, vI x3), (4, vI x4), (5, vI x5)] dX11_waysOf_128 rfl (by decide) rfl ?_
    refine r_goto C dX11_waysOf_131 (tgt := 88) (by decide) ?_
    cases h
    refine r_sub [1, 2, 3, 4, 5, 6, 0] rfl ?_
    exact hK
noncomputable def s_X11_waysOf_l88 (a0 : Nat) (x1 : Int) (x2 : Int) (x3 : Int) (x4 : Int) (x5 : Int) (x6 : Int) (μ : Me) : Option ((Int × Me) ⊕ ((Int × Me) ⊕ (Int × Me))) :=
  whileO (fun s : Int × Me => s_X11_waysOf_l88_st a0 x1 x2 x3 x4 x5 s.1 s.2) (x6, μ)
theorem e_X11_waysOf_l88 (a0 : Nat) (x1 : Int) (x2 : Int) (x3 : Int) (x4 : Int) (x5 : Int) (x6 : Int) (μ : Me) : s_X11_waysOf_l88 a0 x1 x2 x3 x4 x5 x6 μ = (s_X11_waysOf_l88_st a0 x1 x2 x3 x4 x5 x6 μ).bind fun x => x.elim (fun s : Int × Me => s_X11_waysOf_l88 a0 x1 x2 x3 x4 x5 s.1 s.2) some := whileO_eq _ _
theorem w_X11_waysOf_l88 {Z : Zt} {fin : Int × Me} {w : ((Int × Me) ⊕ ((Int × Me) ⊕ (Int × Me)))} (C : CX Z yX11_waysOf cX11_waysOf (some .long) 1 7) {a0 : Nat} {x1 : Int} {x2 : Int} {x3 : Int} {x4 : Int} {x5 : Int} {x6 : Int} {μ : Me} (h : s_X11_waysOf_l88 a0 x1 x2 x3 x4 x5 x6 μ = some w) (hK : (Sum.elim (fun s : Int × Me => WL Z (QN Z (some (vJ fin.1)) fin.2) s.2 78 [(0, vO a0), (1, vI x1), (2, vI x2), (3, vI x3), (4, vI x4), (5, vI s.1)] []) (Sum.elim (fun s : Int × Me => WL Z (QN Z (some (vJ fin.1)) fin.2) s.2 69 [(0, vO a0), (1, vI x1), (2, vI x2), (3, vI x3), (4, vI s.1)] []) (fun r : Int × Me => r = fin))) w) : WL Z (QN Z (some (vJ fin.1)) fin.2) μ 88 [(0, vO a0), (1, vI x1), (2, vI x2), (3, vI x3), (4, vI x4), (5, vI x5), (6, vI x6)] [] := by
  refine whileO_walk (w := w) (fun s : Int × Me => WL Z (QN Z (some (vJ fin.1)) fin.2) s.2 88 [(0, vO a0), (1, vI x1), (2, vI x2), (3, vI x3), (4, vI x4), (5, vI x5), (6, vI s.1)] []) (fun s v h2 hi hr => ?_) (x6, μ) h
  refine w_X11_waysOf_l88_st (fin := fin) C h2 ?_
  cases v with
  | inl s2 => exact hi s2 rfl
  | inr r => have e := hr r rfl; subst e; exact hK
noncomputable def s_X11_waysOf_l78_st (a0 : Nat) (x1 : Int) (x2 : Int) (x3 : Int) (x4 : Int) (x5 : Int) (μ : Me) : Option ((Int × Me) ⊕ ((Int × Me) ⊕ (Int × Me))) :=
  (if w32 x2 < w32 x5 then
  some (.inr (.inl ((x4 + 1), μ)))
  else
  s_X11_waysOf_l88 a0 x1 x2 x3 x4 x5 x4 μ)
theorem w_X11_waysOf_l78_st {Z : Zt} {fin : Int × Me} {w : ((Int × Me) ⊕ ((Int × Me) ⊕ (Int × Me)))} (C : CX Z yX11_waysOf cX11_waysOf (some .long) 1 7) {a0 : Nat} {x1 : Int} {x2 : Int} {x3 : Int} {x4 : Int} {x5 : Int} {μ : Me} (h : s_X11_waysOf_l78_st a0 x1 x2 x3 x4 x5 μ = some w) (hK : (Sum.elim (fun s : Int × Me => WL Z (QN Z (some (vJ fin.1)) fin.2) s.2 78 [(0, vO a0), (1, vI x1), (2, vI x2), (3, vI x3), (4, vI x4), (5, vI s.1)] []) (Sum.elim (fun s : Int × Me => WL Z (QN Z (some (vJ fin.1)) fin.2) s.2 69 [(0, vO a0), (1, vI x1), (2, vI x2), (3, vI x3), (4, vI s.1)] []) (fun r : Int × Me => r = fin))) w) : WL Z (QN Z (some (vJ fin.1)) fin.2) μ 78 [(0, vO a0), (1, vI x1), (2, vI x2), (3, vI x3), (4, vI x4), (5, vI x5)] [] := by
  unfold s_X11_waysOf_l78_st at h
  refine r_iload C 5 dX11_waysOf_78 rfl ?_
  refine r_iload_n C 2 dX11_waysOf_80 rfl rfl ?_
  refine r_icmp_gt C dX11_waysOf_81 (tgt := 140) (by decide) (fun c7 => ?_) (fun c7 => ?_)
  · have h := it_ h c7
    refine r_iinc C 4 [(4, vI (x4 + 1)), (0, vO a0), (1, vI x1), (2, vI x2), (3, vI x3), (5, vI x5)] dX11_waysOf_140 rfl (by decide) rfl ?_
    refine r_goto C dX11_waysOf_143 (tgt := 69) (by decide) ?_
    cases h
    refine r_sub [1, 2, 3, 4, 0] rfl ?_
    exact hK
  · have h := ie_ h c7
    refine r_iload C 4 dX11_waysOf_84 rfl ?_
    refine r_istore C [(6, vI x4), (0, vO a0), (1, vI x1), (2, vI x2), (3, vI x3), (4, vI x4), (5, vI x5)] dX11_waysOf_86 (by decide) rfl ?_
    refine r_sub [1, 2, 3, 4, 5, 6, 0] rfl ?_
    exact w_X11_waysOf_l88 (fin := fin) C h hK
noncomputable def s_X11_waysOf_l78 (a0 : Nat) (x1 : Int) (x2 : Int) (x3 : Int) (x4 : Int) (x5 : Int) (μ : Me) : Option ((Int × Me) ⊕ (Int × Me)) :=
  whileO (fun s : Int × Me => s_X11_waysOf_l78_st a0 x1 x2 x3 x4 s.1 s.2) (x5, μ)
theorem e_X11_waysOf_l78 (a0 : Nat) (x1 : Int) (x2 : Int) (x3 : Int) (x4 : Int) (x5 : Int) (μ : Me) : s_X11_waysOf_l78 a0 x1 x2 x3 x4 x5 μ = (s_X11_waysOf_l78_st a0 x1 x2 x3 x4 x5 μ).bind fun x => x.elim (fun s : Int × Me => s_X11_waysOf_l78 a0 x1 x2 x3 x4 s.1 s.2) some := whileO_eq _ _
theorem w_X11_waysOf_l78 {Z : Zt} {fin : Int × Me} {w : ((Int × Me) ⊕ (Int × Me))} (C : CX Z yX11_waysOf cX11_waysOf (some .long) 1 7) {a0 : Nat} {x1 : Int} {x2 : Int} {x3 : Int} {x4 : Int} {x5 : Int} {μ : Me} (h : s_X11_waysOf_l78 a0 x1 x2 x3 x4 x5 μ = some w) (hK : (Sum.elim (fun s : Int × Me => WL Z (QN Z (some (vJ fin.1)) fin.2) s.2 69 [(0, vO a0), (1, vI x1), (2, vI x2), (3, vI x3), (4, vI s.1)] []) (fun r : Int × Me => r = fin)) w) : WL Z (QN Z (some (vJ fin.1)) fin.2) μ 78 [(0, vO a0), (1, vI x1), (2, vI x2), (3, vI x3), (4, vI x4), (5, vI x5)] [] := by
  refine whileO_walk (w := w) (fun s : Int × Me => WL Z (QN Z (some (vJ fin.1)) fin.2) s.2 78 [(0, vO a0), (1, vI x1), (2, vI x2), (3, vI x3), (4, vI x4), (5, vI s.1)] []) (fun s v h2 hi hr => ?_) (x5, μ) h
  refine w_X11_waysOf_l78_st (fin := fin) C h2 ?_
  cases v with
  | inl s2 => exact hi s2 rfl
  | inr r => have e := hr r rfl; subst e; exact hK
noncomputable def s_X11_waysOf_l69_st (a0 : Nat) (x1 : Int) (x2 : Int) (x3 : Int) (x4 : Int) (μ : Me) : Option ((Int × Me) ⊕ (Int × Me)) :=
  (if w32 x3 < w32 x4 then
  (s_X11_waysOf_b146 a0 x1 x2 μ).map Sum.inr
  else
  s_X11_waysOf_l78 a0 x1 x2 x3 x4 1 μ)
theorem w_X11_waysOf_l69_st {Z : Zt} {fin : Int × Me} {w : ((Int × Me) ⊕ (Int × Me))} (C : CX Z yX11_waysOf cX11_waysOf (some .long) 1 7) {a0 : Nat} {x1 : Int} {x2 : Int} {x3 : Int} {x4 : Int} {μ : Me} (h : s_X11_waysOf_l69_st a0 x1 x2 x3 x4 μ = some w) (hK : (Sum.elim (fun s : Int × Me => WL Z (QN Z (some (vJ fin.1)) fin.2) s.2 69 [(0, vO a0), (1, vI x1), (2, vI x2), (3, vI x3), (4, vI s.1)] []) (fun r : Int × Me => r = fin)) w) : WL Z (QN Z (some (vJ fin.1)) fin.2) μ 69 [(0, vO a0), (1, vI x1), (2, vI x2), (3, vI x3), (4, vI x4)] [] := by
  unfold s_X11_waysOf_l69_st at h
  refine r_iload C 4 dX11_waysOf_69 rfl ?_
  refine r_iload_n C 3 dX11_waysOf_71 rfl rfl ?_
  refine r_icmp_gt C dX11_waysOf_72 (tgt := 146) (by decide) (fun c3 => ?_) (fun c3 => ?_)
  · have h := it_ h c3
    obtain ⟨z, hz, ez⟩ := ms_ h; clear h; subst ez; have h := hz; clear hz
    refine r_sub [0, 1, 2] rfl ?_
    exact w_X11_waysOf_b146 (fin := fin) C h hK
  · have h := ie_ h c3
    refine r_iconst C dX11_waysOf_75 ?_
    refine r_istore C [(5, vI 1), (0, vO a0), (1, vI x1), (2, vI x2), (3, vI x3), (4, vI x4)] dX11_waysOf_76 (by decide) rfl ?_
    refine r_sub [1, 2, 3, 4, 5, 0] rfl ?_
    exact w_X11_waysOf_l78 (fin := fin) C h hK
noncomputable def s_X11_waysOf_l69 (a0 : Nat) (x1 : Int) (x2 : Int) (x3 : Int) (x4 : Int) (μ : Me) : Option (Int × Me) :=
  whileO (fun s : Int × Me => s_X11_waysOf_l69_st a0 x1 x2 x3 s.1 s.2) (x4, μ)
theorem e_X11_waysOf_l69 (a0 : Nat) (x1 : Int) (x2 : Int) (x3 : Int) (x4 : Int) (μ : Me) : s_X11_waysOf_l69 a0 x1 x2 x3 x4 μ = (s_X11_waysOf_l69_st a0 x1 x2 x3 x4 μ).bind fun x => x.elim (fun s : Int × Me => s_X11_waysOf_l69 a0 x1 x2 x3 s.1 s.2) some := whileO_eq _ _
theorem w_X11_waysOf_l69 {Z : Zt} {fin : Int × Me} {w : (Int × Me)} (C : CX Z yX11_waysOf cX11_waysOf (some .long) 1 7) {a0 : Nat} {x1 : Int} {x2 : Int} {x3 : Int} {x4 : Int} {μ : Me} (h : s_X11_waysOf_l69 a0 x1 x2 x3 x4 μ = some w) (hK : (fun r : Int × Me => r = fin) w) : WL Z (QN Z (some (vJ fin.1)) fin.2) μ 69 [(0, vO a0), (1, vI x1), (2, vI x2), (3, vI x3), (4, vI x4)] [] := by
  refine whileO_walk (w := w) (fun s : Int × Me => WL Z (QN Z (some (vJ fin.1)) fin.2) s.2 69 [(0, vO a0), (1, vI x1), (2, vI x2), (3, vI x3), (4, vI s.1)] []) (fun s v h2 hi hr => ?_) (x4, μ) h
  refine w_X11_waysOf_l69_st (fin := fin) C h2 ?_
  cases v with
  | inl s2 => exact hi s2 rfl
  | inr r => have e := hr r rfl; subst e; exact hK
noncomputable def s_X11_waysOf_l19_st (a0 : Nat) (x1 : Int) (x2 : Int) (x3 : Int) (x4 : Int) (x5 : Int) (μ : Me) : Option ((Int × Me) ⊕ ((Int × Me) ⊕ (Int × Me))) :=
  (if w32 97 ≤ w32 x5 then
  some (.inr (.inl ((x4 + 1), μ)))
  else
  (gR μ 9 a0 21).bind fun v15 =>
  (if w32 x4 = 0 then
  (if w32 x5 = 0 then
  (uJ μ v15 ((97 * x4) + x5) 1).bind fun m20 =>
  some (.inl ((x5 + 1), m20))
  else
  (uJ μ v15 ((97 * x4) + x5) 0).bind fun m19 =>
  some (.inl ((x5 + 1), m19)))
  else
  (uJ μ v15 ((97 * x4) + x5) 0).bind fun m17 =>
  some (.inl ((x5 + 1), m17))))
theorem w_X11_waysOf_l19_st {Z : Zt} {fin : Int × Me} {w : ((Int × Me) ⊕ ((Int × Me) ⊕ (Int × Me)))} (C : CX Z yX11_waysOf cX11_waysOf (some .long) 1 7) {a0 : Nat} {x1 : Int} {x2 : Int} {x3 : Int} {x4 : Int} {x5 : Int} {μ : Me} (h : s_X11_waysOf_l19_st a0 x1 x2 x3 x4 x5 μ = some w) (hK : (Sum.elim (fun s : Int × Me => WL Z (QN Z (some (vJ fin.1)) fin.2) s.2 19 [(0, vO a0), (1, vI x1), (2, vI x2), (3, vI x3), (4, vI x4), (5, vI s.1)] []) (Sum.elim (fun s : Int × Me => WL Z (QN Z (some (vJ fin.1)) fin.2) s.2 9 [(0, vO a0), (1, vI x1), (2, vI x2), (3, vI x3), (4, vI s.1)] []) (fun r : Int × Me => r = fin))) w) : WL Z (QN Z (some (vJ fin.1)) fin.2) μ 19 [(0, vO a0), (1, vI x1), (2, vI x2), (3, vI x3), (4, vI x4), (5, vI x5)] [] := by
  unfold s_X11_waysOf_l19_st at h
  refine r_iload C 5 dX11_waysOf_19 rfl ?_
  refine r_bipush C dX11_waysOf_21 (by decide) ?_
  refine r_icmp_ge C dX11_waysOf_23 (tgt := 60) (by decide) (fun c14 => ?_) (fun c14 => ?_)
  · have h := it_ h c14
    refine r_iinc C 4 [(4, vI (x4 + 1)), (0, vO a0), (1, vI x1), (2, vI x2), (3, vI x3), (5, vI x5)] dX11_waysOf_60 rfl (by decide) rfl ?_
    refine r_goto C dX11_waysOf_63 (tgt := 9) (by decide) ?_
    cases h
    refine r_sub [1, 2, 3, 4, 0] rfl ?_
    exact hK
  · have h := ie_ h c14
    refine r_aload_n C 0 dX11_waysOf_26 rfl rfl ?_
    obtain ⟨v15, ev15, h⟩ := bs h
    refine r_getR C (c := 9) (r := (RX11, TX11, 38)) rfl 21 (by decide) rfl ev15 q1334 dX11_waysOf_27 ?_
    refine r_bipush C dX11_waysOf_30 (by decide) ?_
    refine r_iload C 4 dX11_waysOf_32 rfl ?_
    refine r_imul C dX11_waysOf_34 ?_
    refine r_iload C 5 dX11_waysOf_35 rfl ?_
    refine r_iadd C dX11_waysOf_37 ?_
    refine r_iload C 4 dX11_waysOf_38 rfl ?_
    refine r_if_ne C dX11_waysOf_40 (tgt := 52) (by decide) (fun c16 => ?_) (fun c16 => ?_)
    · have h := ie_ h c16
      refine r_lconst (v := 0) C dX11_waysOf_52 (by decide) ?_
      obtain ⟨m17, em17, h⟩ := bs h
      refine r_last C em17 dX11_waysOf_53 ?_
      refine r_iinc C 5 [(5, vI (x5 + 1)), (0, vO a0), (1, vI x1), (2, vI x2), (3, vI x3), (4, vI x4)] dX11_waysOf_54 rfl (by decide) rfl ?_
      refine r_goto C dX11_waysOf_57 (tgt := 19) (by decide) ?_
      cases h
      refine r_sub [1, 2, 3, 4, 5, 0] rfl ?_
      exact hK
    · have h := it_ h c16
      refine r_iload C 5 dX11_waysOf_43 rfl ?_
      refine r_if_ne C dX11_waysOf_45 (tgt := 52) (by decide) (fun c18 => ?_) (fun c18 => ?_)
      · have h := ie_ h c18
        refine r_lconst (v := 0) C dX11_waysOf_52 (by decide) ?_
        obtain ⟨m19, em19, h⟩ := bs h
        refine r_last C em19 dX11_waysOf_53 ?_
        refine r_iinc C 5 [(5, vI (x5 + 1)), (0, vO a0), (1, vI x1), (2, vI x2), (3, vI x3), (4, vI x4)] dX11_waysOf_54 rfl (by decide) rfl ?_
        refine r_goto C dX11_waysOf_57 (tgt := 19) (by decide) ?_
        cases h
        refine r_sub [1, 2, 3, 4, 5, 0] rfl ?_
        exact hK
      · have h := it_ h c18
        refine r_lconst (v := 1) C dX11_waysOf_48 (by decide) ?_
        refine r_goto C dX11_waysOf_49 (tgt := 53) (by decide) ?_
        obtain ⟨m20, em20, h⟩ := bs h
        refine r_last C em20 dX11_waysOf_53 ?_
        refine r_iinc C 5 [(5, vI (x5 + 1)), (0, vO a0), (1, vI x1), (2, vI x2), (3, vI x3), (4, vI x4)] dX11_waysOf_54 rfl (by decide) rfl ?_
        refine r_goto C dX11_waysOf_57 (tgt := 19) (by decide) ?_
        cases h
        refine r_sub [1, 2, 3, 4, 5, 0] rfl ?_
        exact hK
noncomputable def s_X11_waysOf_l19 (a0 : Nat) (x1 : Int) (x2 : Int) (x3 : Int) (x4 : Int) (x5 : Int) (μ : Me) : Option ((Int × Me) ⊕ (Int × Me)) :=
  whileO (fun s : Int × Me => s_X11_waysOf_l19_st a0 x1 x2 x3 x4 s.1 s.2) (x5, μ)
theorem e_X11_waysOf_l19 (a0 : Nat) (x1 : Int) (x2 : Int) (x3 : Int) (x4 : Int) (x5 : Int) (μ : Me) : s_X11_waysOf_l19 a0 x1 x2 x3 x4 x5 μ = (s_X11_waysOf_l19_st a0 x1 x2 x3 x4 x5 μ).bind fun x => x.elim (fun s : Int × Me => s_X11_waysOf_l19 a0 x1 x2 x3 x4 s.1 s.2) some := whileO_eq _ _
theorem w_X11_waysOf_l19 {Z : Zt} {fin : Int × Me} {w : ((Int × Me) ⊕ (Int × Me))} (C : CX Z yX11_waysOf cX11_waysOf (some .long) 1 7) {a0 : Nat} {x1 : Int} {x2 : Int} {x3 : Int} {x4 : Int} {x5 : Int} {μ : Me} (h : s_X11_waysOf_l19 a0 x1 x2 x3 x4 x5 μ = some w) (hK : (Sum.elim (fun s : Int × Me => WL Z (QN Z (some (vJ fin.1)) fin.2) s.2 9 [(0, vO a0), (1, vI x1), (2, vI x2), (3, vI x3), (4, vI s.1)] []) (fun r : Int × Me => r = fin)) w) : WL Z (QN Z (some (vJ fin.1)) fin.2) μ 19 [(0, vO a0), (1, vI x1), (2, vI x2), (3, vI x3), (4, vI x4), (5, vI x5)] [] := by
  refine whileO_walk (w := w) (fun s : Int × Me => WL Z (QN Z (some (vJ fin.1)) fin.2) s.2 19 [(0, vO a0), (1, vI x1), (2, vI x2), (3, vI x3), (4, vI x4), (5, vI s.1)] []) (fun s v h2 hi hr => ?_) (x5, μ) h
  refine w_X11_waysOf_l19_st (fin := fin) C h2 ?_
  cases v with
  | inl s2 => exact hi s2 rfl
  | inr r => have e := hr r rfl; subst e; exact hK
noncomputable def s_X11_waysOf_l9_st (a0 : Nat) (x1 : Int) (x2 : Int) (x3 : Int) (x4 : Int) (μ : Me) : Option ((Int × Me) ⊕ (Int × Me)) :=
  (if w32 12 < w32 x4 then
  (s_X11_waysOf_l69 a0 x1 x2 x3 1 μ).map Sum.inr
  else
  s_X11_waysOf_l19 a0 x1 x2 x3 x4 0 μ)
theorem w_X11_waysOf_l9_st {Z : Zt} {fin : Int × Me} {w : ((Int × Me) ⊕ (Int × Me))} (C : CX Z yX11_waysOf cX11_waysOf (some .long) 1 7) {a0 : Nat} {x1 : Int} {x2 : Int} {x3 : Int} {x4 : Int} {μ : Me} (h : s_X11_waysOf_l9_st a0 x1 x2 x3 x4 μ = some w) (hK : (Sum.elim (fun s : Int × Me => WL Z (QN Z (some (vJ fin.1)) fin.2) s.2 9 [(0, vO a0), (1, vI x1), (2, vI x2), (3, vI x3), (4, vI s.1)] []) (fun r : Int × Me => r = fin)) w) : WL Z (QN Z (some (vJ fin.1)) fin.2) μ 9 [(0, vO a0), (1, vI x1), (2, vI x2), (3, vI x3), (4, vI x4)] [] := by
  unfold s_X11_waysOf_l9_st at h
  refine r_iload C 4 dX11_waysOf_9 rfl ?_
  refine r_bipush C dX11_waysOf_11 (by decide) ?_
  refine r_icmp_gt C dX11_waysOf_13 (tgt := 66) (by decide) (fun c2 => ?_) (fun c2 => ?_)
  · have h := it_ h c2
    refine r_iconst C dX11_waysOf_66 ?_
    refine r_istore C [(4, vI 1), (0, vO a0), (1, vI x1), (2, vI x2), (3, vI x3)] dX11_waysOf_67 (by decide) rfl ?_
    obtain ⟨z, hz, ez⟩ := ms_ h; clear h; subst ez; have h := hz; clear hz
    refine r_sub [1, 2, 3, 4, 0] rfl ?_
    exact w_X11_waysOf_l69 (fin := fin) C h hK
  · have h := ie_ h c2
    refine r_iconst C dX11_waysOf_16 ?_
    refine r_istore C [(5, vI 0), (0, vO a0), (1, vI x1), (2, vI x2), (3, vI x3), (4, vI x4)] dX11_waysOf_17 (by decide) rfl ?_
    refine r_sub [1, 2, 3, 4, 5, 0] rfl ?_
    exact w_X11_waysOf_l19 (fin := fin) C h hK
noncomputable def s_X11_waysOf_l9 (a0 : Nat) (x1 : Int) (x2 : Int) (x3 : Int) (x4 : Int) (μ : Me) : Option (Int × Me) :=
  whileO (fun s : Int × Me => s_X11_waysOf_l9_st a0 x1 x2 x3 s.1 s.2) (x4, μ)
theorem e_X11_waysOf_l9 (a0 : Nat) (x1 : Int) (x2 : Int) (x3 : Int) (x4 : Int) (μ : Me) : s_X11_waysOf_l9 a0 x1 x2 x3 x4 μ = (s_X11_waysOf_l9_st a0 x1 x2 x3 x4 μ).bind fun x => x.elim (fun s : Int × Me => s_X11_waysOf_l9 a0 x1 x2 x3 s.1 s.2) some := whileO_eq _ _
theorem w_X11_waysOf_l9 {Z : Zt} {fin : Int × Me} {w : (Int × Me)} (C : CX Z yX11_waysOf cX11_waysOf (some .long) 1 7) {a0 : Nat} {x1 : Int} {x2 : Int} {x3 : Int} {x4 : Int} {μ : Me} (h : s_X11_waysOf_l9 a0 x1 x2 x3 x4 μ = some w) (hK : (fun r : Int × Me => r = fin) w) : WL Z (QN Z (some (vJ fin.1)) fin.2) μ 9 [(0, vO a0), (1, vI x1), (2, vI x2), (3, vI x3), (4, vI x4)] [] := by
  refine whileO_walk (w := w) (fun s : Int × Me => WL Z (QN Z (some (vJ fin.1)) fin.2) s.2 9 [(0, vO a0), (1, vI x1), (2, vI x2), (3, vI x3), (4, vI s.1)] []) (fun s v h2 hi hr => ?_) (x4, μ) h
  refine w_X11_waysOf_l9_st (fin := fin) C h2 ?_
  cases v with
  | inl s2 => exact hi s2 rfl
  | inr r => have e := hr r rfl; subst e; exact hK
noncomputable def s_X11_waysOf (a0 : Nat) (x1 : Int) (x2 : Int) (x3 : Int) (μ : Me) : Option (Int × Me) :=
  (if 0 ≤ w32 x1 then
  s_X11_waysOf_l9 a0 x1 x2 x3 0 μ
  else
  some (0, μ))
theorem w_X11_waysOf {Z : Zt} {fin : Int × Me} {w : Int × Me} (C : CX Z yX11_waysOf cX11_waysOf (some .long) 1 7) {a0 : Nat} {x1 : Int} {x2 : Int} {x3 : Int} {μ : Me} (h : s_X11_waysOf a0 x1 x2 x3 μ = some w) (hK : w = fin) : WL Z (QN Z (some (vJ fin.1)) fin.2) μ 0 [(0, vO a0), (1, vI x1), (2, vI x2), (3, vI x3)] [] := by
  unfold s_X11_waysOf at h
  refine r_iload_n C 1 dX11_waysOf_0 rfl rfl ?_
  refine r_if_ge C dX11_waysOf_1 (tgt := 6) (by decide) (fun c1 => ?_) (fun c1 => ?_)
  · have h := it_ h c1
    refine r_iconst C dX11_waysOf_6 ?_
    refine r_istore C [(4, vI 0), (0, vO a0), (1, vI x1), (2, vI x2), (3, vI x3)] dX11_waysOf_7 (by decide) rfl ?_
    refine r_sub [1, 2, 3, 4, 0] rfl ?_
    exact w_X11_waysOf_l9 (fin := fin) C h hK
  · have h := ie_ h c1
    refine r_lconst (v := 0) C dX11_waysOf_4 (by decide) ?_
    cases h
    exact r_lret C hK dX11_waysOf_5
theorem hdX11_waysOf : zhd yX11_waysOf 3 := by decide +kernel
theorem m_X11_waysOf {l : Launch} {D : va_G} {b0 : Nat} (hl : l.stackTraces = false) {a0 : Nat} {x1 : Int} {x2 : Int} {x3 : Int} {μ : Me} {w : Int × Me} (h : s_X11_waysOf a0 x1 x2 x3 μ = some w) : MN l D b0 yX11_waysOf (ws_ yX11_waysOf cX11_waysOf 7 (some .long)) 1 [vO a0, vI x1, vI x2, vI x3] μ (some (vJ w.1)) w.2 :=
  MN.of hl (by decide +kernel) (Nat.le_of_ble_eq_true rfl) (fun Z C _ _ => w_X11_waysOf C h rfl)
noncomputable def s_X11_count_b41 (a0 : Nat) (x1 : Int) (x2 : Int) (x3 : Int) (t0 : Int) (t1 : Nat) (μ : Me) : Option (Int × Me) :=
  (ck μ 9 t1).bind fun _ =>
  (s_X11_throwsIf t1 t0 1 μ).bind fun q4 =>
  (if w32 q4.1 = 0 then
  (if w32 ((x2 * x1) - x3) < 0 then
  some (0, q4.2)
  else
  (rmI ((x2 * x1) - x3) 2).bind fun v8 =>
  (if w32 v8 = 0 then
  (dvI ((x2 * x1) - x3) 2).bind fun v10 =>
  (ck q4.2 9 a0).bind fun _ =>
  (s_X11_waysOf a0 v10 x1 x2 q4.2).bind fun q11 =>
  (dvI ((x2 * x1) - x3) 2).bind fun v13 =>
  (ck q11.2 9 a0).bind fun _ =>
  (s_X11_waysOf a0 (v13 - 1) x1 x2 q11.2).bind fun q14 =>
  some ((q11.1 - q14.1), q14.2)
  else
  some (0, q4.2)))
  else
  some (0, q4.2))
theorem w_X11_count_b41 {Z : Zt} {fin : Int × Me} {w : (Int × Me)} (C : CX Z yX11_count cX11_count (some .long) 2 5) {a0 : Nat} {x1 : Int} {x2 : Int} {x3 : Int} {t0 : Int} {t1 : Nat} {μ : Me} (h : s_X11_count_b41 a0 x1 x2 x3 t0 t1 μ = some w) (hK : (fun r : Int × Me => r = fin) w) : WL Z (QN Z (some (vJ fin.1)) fin.2) μ 41 [(0, vO a0), (1, vI x1), (2, vI x2), (3, vI x3)] [vI t0, vO t1] := by
  unfold s_X11_count_b41 at h
  refine r_iconst C dX11_count_41 ?_
  obtain ⟨u5, eu5, h⟩ := bs h
  obtain ⟨q4, eq4, h⟩ := bs h
  refine r_callV C (As := [vI t0, vI 1]) (b := t1) (rest := []) (st1 := [vI q4.1]) (v := some (vI q4.1)) (r := (RX11, TX11, 38)) (ci := 9) rfl eu5 (m_X11_throwsIf C.tr eq4) (lw_V q1500 q1502 qs49 q133 q1503) rfl hdX11_throwsIf rfl rfl (Nat.le_of_ble_eq_true rfl) ⟨by decide, by decide⟩ dX11_count_42 rfl ?_
  refine r_if_eq C dX11_count_45 (tgt := 50) (by decide) (fun c6 => ?_) (fun c6 => ?_)
  · have h := it_ h c6
    refine r_iload_n C 2 dX11_count_50 rfl rfl ?_
    refine r_iload_n C 1 dX11_count_51 rfl rfl ?_
    refine r_imul C dX11_count_52 ?_
    refine r_iload_n C 3 dX11_count_53 rfl rfl ?_
    refine r_isub C dX11_count_54 ?_
    refine r_istore C [(4, vI ((x2 * x1) - x3)), (0, vO a0), (1, vI x1), (2, vI x2), (3, vI x3)] dX11_count_55 (by decide) rfl ?_
    refine r_iload C 0 dX11_count_57 rfl ?_
    refine r_if_lt C dX11_count_59 (tgt := 69) (by decide) (fun c7 => ?_) (fun c7 => ?_)
    · have h := it_ h c7
      refine r_lconst (v := 0) C dX11_count_69 (by decide) ?_
      refine r_goto C dX11_count_70 (tgt := 96) (by decide) ?_
      cases h
      exact r_lret C hK dX11_count_96
    · have h := ie_ h c7
      refine r_iload C 0 dX11_count_62 rfl ?_
      refine r_iconst C dX11_count_64 ?_
      obtain ⟨v8, ev8, h⟩ := bs h
      refine r_irem C ev8 dX11_count_65 ?_
      refine r_if_eq C dX11_count_66 (tgt := 73) (by decide) (fun c9 => ?_) (fun c9 => ?_)
      · have h := it_ h c9
        refine r_aload_n C 1 dX11_count_73 rfl rfl ?_
        refine r_iload C 0 dX11_count_74 rfl ?_
        refine r_iconst C dX11_count_76 ?_
        obtain ⟨v10, ev10, h⟩ := bs h
        refine r_idiv C ev10 dX11_count_77 ?_
        refine r_iload_n C 2 dX11_count_78 rfl rfl ?_
        refine r_iload_n C 3 dX11_count_79 rfl rfl ?_
        obtain ⟨u12, eu12, h⟩ := bs h
        obtain ⟨q11, eq11, h⟩ := bs h
        refine r_callV C (As := [vI v10, vI x1, vI x2]) (b := a0) (rest := []) (st1 := [vJ q11.1]) (v := some (vJ q11.1)) (r := (RX11, TX11, 38)) (ci := 9) rfl eu12 (m_X11_waysOf C.tr eq11) (lw_V q1740 q1742 qs89 q133 q1743) rfl hdX11_waysOf rfl rfl (Nat.le_of_ble_eq_true rfl) ⟨by decide, by decide⟩ dX11_count_80 rfl ?_
        refine r_aload_n C 1 dX11_count_83 rfl rfl ?_
        refine r_iload C 0 dX11_count_84 rfl ?_
        refine r_iconst C dX11_count_86 ?_
        obtain ⟨v13, ev13, h⟩ := bs h
        refine r_idiv C ev13 dX11_count_87 ?_
        refine r_iconst C dX11_count_88 ?_
        refine r_isub C dX11_count_89 ?_
        refine r_iload_n C 2 dX11_count_90 rfl rfl ?_
        refine r_iload_n C 3 dX11_count_91 rfl rfl ?_
        obtain ⟨u15, eu15, h⟩ := bs h
        obtain ⟨q14, eq14, h⟩ := bs h
        refine r_callV C (As := [vI (v13 - 1), vI x1, vI x2]) (b := a0) (rest := [vJ q11.1]) (st1 := [vJ q14.1, vJ q11.1]) (v := some (vJ q14.1)) (r := (RX11, TX11, 38)) (ci := 9) rfl eu15 (m_X11_waysOf C.tr eq14) (lw_V q1740 q1742 qs89 q133 q1743) rfl hdX11_waysOf rfl rfl (Nat.le_of_ble_eq_true rfl) ⟨by decide, by decide⟩ dX11_count_92 rfl ?_
        refine r_lsub C dX11_count_95 ?_
        cases h
        exact r_lret C hK dX11_count_96
      · have h := ie_ h c9
        refine r_lconst (v := 0) C dX11_count_69 (by decide) ?_
        refine r_goto C dX11_count_70 (tgt := 96) (by decide) ?_
        cases h
        exact r_lret C hK dX11_count_96
  · have h := ie_ h c6
    refine r_lconst (v := 0) C dX11_count_48 (by decide) ?_
    cases h
    exact r_lret C hK dX11_count_49
noncomputable def s_X11_count_b36 (a0 : Nat) (x1 : Int) (x2 : Int) (x3 : Int) (t0 : Nat) (μ : Me) : Option (Int × Me) :=
  s_X11_count_b41 a0 x1 x2 x3 1 t0 μ
theorem w_X11_count_b36 {Z : Zt} {fin : Int × Me} {w : (Int × Me)} (C : CX Z yX11_count cX11_count (some .long) 2 5) {a0 : Nat} {x1 : Int} {x2 : Int} {x3 : Int} {t0 : Nat} {μ : Me} (h : s_X11_count_b36 a0 x1 x2 x3 t0 μ = some w) (hK : (fun r : Int × Me => r = fin) w) : WL Z (QN Z (some (vJ fin.1)) fin.2) μ 36 [(0, vO a0), (1, vI x1), (2, vI x2), (3, vI x3)] [vO t0] := by
  unfold s_X11_count_b36 at h
  refine r_iconst C dX11_count_36 ?_
  refine r_goto C dX11_count_37 (tgt := 41) (by decide) ?_
  exact w_X11_count_b41 (fin := fin) C h hK
noncomputable def s_X11_count (a0 : Nat) (x1 : Int) (x2 : Int) (x3 : Int) (μ : Me) : Option (Int × Me) :=
  (pI μ 9 a0 0 0).bind fun m1 =>
  (s_X11_in x1 0 12 m1).bind fun q2 =>
  (if w32 q2.1 = 0 then
  s_X11_count_b36 a0 x1 x2 x3 a0 q2.2
  else
  (s_X11_in x2 1 8 q2.2).bind fun q16 =>
  (if w32 q16.1 = 0 then
  s_X11_count_b36 a0 x1 x2 x3 a0 q16.2
  else
  (s_X11_in x3 0 96 q16.2).bind fun q18 =>
  (if w32 q18.1 = 0 then
  s_X11_count_b36 a0 x1 x2 x3 a0 q18.2
  else
  s_X11_count_b41 a0 x1 x2 x3 0 a0 q18.2)))
theorem w_X11_count {Z : Zt} {fin : Int × Me} {w : Int × Me} (C : CX Z yX11_count cX11_count (some .long) 2 5) {a0 : Nat} {x1 : Int} {x2 : Int} {x3 : Int} {μ : Me} (h : s_X11_count a0 x1 x2 x3 μ = some w) (hK : w = fin) : WL Z (QN Z (some (vJ fin.1)) fin.2) μ 0 [(0, vO a0), (1, vI x1), (2, vI x2), (3, vI x3)] [] := by
  unfold s_X11_count at h
  refine r_aload_n C 0 dX11_count_0 rfl rfl ?_
  refine r_iconst C dX11_count_1 ?_
  obtain ⟨m1, em1, h⟩ := bs h
  refine r_putI C (c := 9) (r := (RX11, TX11, 38)) rfl 0 (by decide) rfl ⟨rfl, rfl⟩ rfl em1 q1313 dX11_count_2 ?_
  refine r_aload_n C 0 dX11_count_5 rfl rfl ?_
  refine r_iload_n C 1 dX11_count_6 rfl rfl ?_
  refine r_iconst C dX11_count_7 ?_
  refine r_bipush C dX11_count_8 (by decide) ?_
  obtain ⟨q2, eq2, h⟩ := bs h
  refine r_callS C (As := [vI x1, vI 0, vI 12]) (rest := [vO a0]) (st1 := [vI q2.1, vO a0]) (v := some (vI q2.1)) (m_X11_in C.tr eq2) (lw_S q1512 q1513 q133 q1514) hdX11_in rfl rfl (Nat.le_of_ble_eq_true rfl) ⟨by decide, by decide⟩ dX11_count_10 rfl ?_
  refine r_if_eq C dX11_count_13 (tgt := 36) (by decide) (fun c3 => ?_) (fun c3 => ?_)
  · have h := it_ h c3
    exact w_X11_count_b36 (fin := fin) C h hK
  · have h := ie_ h c3
    refine r_iload_n C 2 dX11_count_16 rfl rfl ?_
    refine r_iconst C dX11_count_17 ?_
    refine r_bipush C dX11_count_18 (by decide) ?_
    obtain ⟨q16, eq16, h⟩ := bs h
    refine r_callS C (As := [vI x2, vI 1, vI 8]) (rest := [vO a0]) (st1 := [vI q16.1, vO a0]) (v := some (vI q16.1)) (m_X11_in C.tr eq16) (lw_S q1512 q1513 q133 q1514) hdX11_in rfl rfl (Nat.le_of_ble_eq_true rfl) ⟨by decide, by decide⟩ dX11_count_20 rfl ?_
    refine r_if_eq C dX11_count_23 (tgt := 36) (by decide) (fun c17 => ?_) (fun c17 => ?_)
    · have h := it_ h c17
      exact w_X11_count_b36 (fin := fin) C h hK
    · have h := ie_ h c17
      refine r_iload_n C 3 dX11_count_26 rfl rfl ?_
      refine r_iconst C dX11_count_27 ?_
      refine r_bipush C dX11_count_28 (by decide) ?_
      obtain ⟨q18, eq18, h⟩ := bs h
      refine r_callS C (As := [vI x3, vI 0, vI 96]) (rest := [vO a0]) (st1 := [vI q18.1, vO a0]) (v := some (vI q18.1)) (m_X11_in C.tr eq18) (lw_S q1512 q1513 q133 q1514) hdX11_in rfl rfl (Nat.le_of_ble_eq_true rfl) ⟨by decide, by decide⟩ dX11_count_30 rfl ?_
      refine r_if_ne C dX11_count_33 (tgt := 40) (by decide) (fun c19 => ?_) (fun c19 => ?_)
      · have h := ie_ h c19
        refine r_iconst C dX11_count_40 ?_
        exact w_X11_count_b41 (fin := fin) C h hK
      · have h := it_ h c19
        exact w_X11_count_b36 (fin := fin) C h hK
theorem hdX11_count : zhd yX11_count 3 := by decide +kernel
theorem m_X11_count {l : Launch} {D : va_G} {b0 : Nat} (hl : l.stackTraces = false) {a0 : Nat} {x1 : Int} {x2 : Int} {x3 : Int} {μ : Me} {w : Int × Me} (h : s_X11_count a0 x1 x2 x3 μ = some w) : MN l D b0 yX11_count (ws_ yX11_count cX11_count 5 (some .long)) 2 [vO a0, vI x1, vI x2, vI x3] μ (some (vJ w.1)) w.2 :=
  MN.of hl (by decide +kernel) (Nat.le_of_ble_eq_true rfl) (fun Z C _ _ => w_X11_count C h rfl)
noncomputable def s_X11_draws_l5_st (a0 : Nat) (x1 : Int) (x3 : Int) (x4 : Int) (μ : Me) : Option ((Int × Int × Me) ⊕ (Me)) :=
  (if w32 (12 * (x1 + 1)) ≤ w32 x4 then
  some (.inr μ)
  else
  (gR μ 9 a0 23).bind fun v2 =>
  (ck μ 9 a0).bind fun _ =>
  (s_X11_p a0  μ).bind fun q3 =>
  (rmI (anI (srI ((1103515245 * x3) + 12345) 16) 32767) q3.1).bind fun v5 =>
  (uI q3.2 v2 x4 v5).bind fun m6 =>
  some (.inl (((1103515245 * x3) + 12345), (x4 + 1), m6)))
theorem w_X11_draws_l5_st {Z : Zt} {fin : Me} {w : ((Int × Int × Me) ⊕ (Me))} (C : CX Z yX11_draws cX11_draws none 2 5) {a0 : Nat} {x1 : Int} {x3 : Int} {x4 : Int} {μ : Me} (h : s_X11_draws_l5_st a0 x1 x3 x4 μ = some w) (hK : (Sum.elim (fun s : Int × Int × Me => WL Z (QN Z none fin) s.2.2 5 [(0, vO a0), (1, vI x1), (3, vI s.1), (4, vI s.2.1)] []) (fun r : Me => r = fin)) w) : WL Z (QN Z none fin) μ 5 [(0, vO a0), (1, vI x1), (3, vI x3), (4, vI x4)] [] := by
  unfold s_X11_draws_l5_st at h
  refine r_iload C 3 dX11_draws_5 rfl ?_
  refine r_bipush C dX11_draws_7 (by decide) ?_
  refine r_iload_n C 1 dX11_draws_9 rfl rfl ?_
  refine r_iconst C dX11_draws_10 ?_
  refine r_iadd C dX11_draws_11 ?_
  refine r_imul C dX11_draws_12 ?_
  refine r_icmp_ge C dX11_draws_13 (tgt := 52) (by decide) (fun c1 => ?_) (fun c1 => ?_)
  · have h := it_ h c1
    cases h
    exact r_vret C hK dX11_draws_52
  · have h := ie_ h c1
    refine r_ldc_w (n := 1103515245) C q1756 dX11_draws_16 (by decide) ?_
    refine r_iload_n C 2 dX11_draws_19 rfl rfl ?_
    refine r_imul C dX11_draws_20 ?_
    refine r_sipush C dX11_draws_21 (by decide) ?_
    refine r_iadd C dX11_draws_24 ?_
    refine r_istore_n C [(3, vI ((1103515245 * x3) + 12345)), (0, vO a0), (1, vI x1), (4, vI x4)] dX11_draws_25 rfl (by decide) rfl ?_
    refine r_aload_n C 1 dX11_draws_26 rfl rfl ?_
    obtain ⟨v2, ev2, h⟩ := bs h
    refine r_getR C (c := 9) (r := (RX11, TX11, 38)) rfl 23 (by decide) rfl ev2 q1336 dX11_draws_27 ?_
    refine r_iload C 3 dX11_draws_30 rfl ?_
    refine r_iload_n C 0 dX11_draws_32 rfl rfl ?_
    refine r_bipush C dX11_draws_33 (by decide) ?_
    refine r_ishr C dX11_draws_35 ?_
    refine r_sipush C dX11_draws_36 (by decide) ?_
    refine r_iand C dX11_draws_39 ?_
    refine r_aload_n C 1 dX11_draws_40 rfl rfl ?_
    obtain ⟨u4, eu4, h⟩ := bs h
    obtain ⟨q3, eq3, h⟩ := bs h
    refine r_callV C (As := []) (b := a0) (rest := [vI (anI (srI ((1103515245 * x3) + 12345) 16) 32767), vI x4, vO v2]) (st1 := [vI q3.1, vI (anI (srI ((1103515245 * x3) + 12345) 16) 32767), vI x4, vO v2]) (v := some (vI q3.1)) (r := (RX11, TX11, 38)) (ci := 9) rfl eu4 (m_X11_p C.tr eq3) (lw_V q1522 q1524 qs51 q133 q1525) rfl hdX11_p rfl rfl (Nat.le_of_ble_eq_true rfl) ⟨by decide, by decide⟩ dX11_draws_41 rfl ?_
    obtain ⟨v5, ev5, h⟩ := bs h
    refine r_irem C ev5 dX11_draws_44 ?_
    obtain ⟨m6, em6, h⟩ := bs h
    refine r_iast C em6 dX11_draws_45 ?_
    refine r_iinc C 3 [(4, vI (x4 + 1)), (3, vI ((1103515245 * x3) + 12345)), (0, vO a0), (1, vI x1)] dX11_draws_46 rfl (by decide) rfl ?_
    refine r_goto C dX11_draws_49 (tgt := 5) (by decide) ?_
    cases h
    refine r_sub [2, 3, 1, 0] rfl ?_
    exact hK
noncomputable def s_X11_draws_l5 (a0 : Nat) (x1 : Int) (x3 : Int) (x4 : Int) (μ : Me) : Option (Me) :=
  whileO (fun s : Int × Int × Me => s_X11_draws_l5_st a0 x1 s.1 s.2.1 s.2.2) (x3, x4, μ)
theorem e_X11_draws_l5 (a0 : Nat) (x1 : Int) (x3 : Int) (x4 : Int) (μ : Me) : s_X11_draws_l5 a0 x1 x3 x4 μ = (s_X11_draws_l5_st a0 x1 x3 x4 μ).bind fun x => x.elim (fun s : Int × Int × Me => s_X11_draws_l5 a0 x1 s.1 s.2.1 s.2.2) some := whileO_eq _ _
theorem w_X11_draws_l5 {Z : Zt} {fin : Me} {w : (Me)} (C : CX Z yX11_draws cX11_draws none 2 5) {a0 : Nat} {x1 : Int} {x3 : Int} {x4 : Int} {μ : Me} (h : s_X11_draws_l5 a0 x1 x3 x4 μ = some w) (hK : (fun r : Me => r = fin) w) : WL Z (QN Z none fin) μ 5 [(0, vO a0), (1, vI x1), (3, vI x3), (4, vI x4)] [] := by
  refine whileO_walk (w := w) (fun s : Int × Int × Me => WL Z (QN Z none fin) s.2.2 5 [(0, vO a0), (1, vI x1), (3, vI s.1), (4, vI s.2.1)] []) (fun s v h2 hi hr => ?_) (x3, x4, μ) h
  refine w_X11_draws_l5_st (fin := fin) C h2 ?_
  cases v with
  | inl s2 => exact hi s2 rfl
  | inr r => have e := hr r rfl; subst e; exact hK
noncomputable def s_X11_draws (a0 : Nat) (x1 : Int) (x2 : Int) (μ : Me) : Option (Me) :=
  s_X11_draws_l5 a0 x1 x2 0 μ
theorem w_X11_draws {Z : Zt} {fin : Me} {w : Me} (C : CX Z yX11_draws cX11_draws none 2 5) {a0 : Nat} {x1 : Int} {x2 : Int} {μ : Me} (h : s_X11_draws a0 x1 x2 μ = some w) (hK : w = fin) : WL Z (QN Z none fin) μ 0 [(0, vO a0), (1, vI x1), (2, vI x2)] [] := by
  unfold s_X11_draws at h
  refine r_iload_n C 2 dX11_draws_0 rfl rfl ?_
  refine r_istore_n C [(3, vI x2), (0, vO a0), (1, vI x1), (2, vI x2)] dX11_draws_1 rfl (by decide) rfl ?_
  refine r_iconst C dX11_draws_2 ?_
  refine r_istore C [(4, vI 0), (3, vI x2), (0, vO a0), (1, vI x1), (2, vI x2)] dX11_draws_3 (by decide) rfl ?_
  refine r_sub [2, 3, 1, 0] rfl ?_
  exact w_X11_draws_l5 (fin := fin) C h hK
theorem hdX11_draws : zhd yX11_draws 2 := by decide +kernel
theorem m_X11_draws {l : Launch} {D : va_G} {b0 : Nat} (hl : l.stackTraces = false) {a0 : Nat} {x1 : Int} {x2 : Int} {μ : Me} {w : Me} (h : s_X11_draws a0 x1 x2 μ = some w) : MN l D b0 yX11_draws (ws_ yX11_draws cX11_draws 5 none) 2 [vO a0, vI x1, vI x2] μ none w :=
  MN.of hl (by decide +kernel) (Nat.le_of_ble_eq_true rfl) (fun Z C _ _ => w_X11_draws C h rfl)
noncomputable def s_X11_rowOf_l100_st (a0 : Nat) (x1 : Int) (x2 : Int) (x3 : Int) (x4 : Int) (x5 : Int) (x6 : Int) (μ : Me) : Option ((Int × Me) ⊕ ((Int × Me) ⊕ (Int × Me))) :=
  (gR μ 9 a0 4).bind fun v12 =>
  (aI μ 101 v12 0).bind fun v13 =>
  (if w32 v13 < w32 x6 then
  some (.inr (.inl ((x5 + 1), μ)))
  else
  (gR μ 9 a0 22).bind fun v15 =>
  (gR μ 9 a0 4).bind fun v16 =>
  (aI μ 101 v16 0).bind fun v17 =>
  (ck μ 9 a0).bind fun _ =>
  (s_X11_of a0 0 x6 μ).bind fun q18 =>
  (uI q18.2 v15 ((x3 + (x5 * (v17 + 1))) + x6) q18.1).bind fun m20 =>
  some (.inl ((x6 + 1), m20)))
theorem w_X11_rowOf_l100_st {Z : Zt} {fin : Int × Me} {w : ((Int × Me) ⊕ ((Int × Me) ⊕ (Int × Me)))} (C : CX Z yX11_rowOf cX11_rowOf (some .boolean) 8 7) {a0 : Nat} {x1 : Int} {x2 : Int} {x3 : Int} {x4 : Int} {x5 : Int} {x6 : Int} {μ : Me} (h : s_X11_rowOf_l100_st a0 x1 x2 x3 x4 x5 x6 μ = some w) (hK : (Sum.elim (fun s : Int × Me => WL Z (QN Z (some (vI fin.1)) fin.2) s.2 100 [(0, vO a0), (1, vI x1), (2, vI x2), (3, vI x3), (4, vI x4), (5, vI x5), (6, vI s.1)] []) (Sum.elim (fun s : Int × Me => WL Z (QN Z (some (vI fin.1)) fin.2) s.2 3 [(0, vO a0), (1, vI x1), (2, vI x2), (3, vI x3), (4, vI x4), (5, vI s.1)] []) (fun r : Int × Me => r = fin))) w) : WL Z (QN Z (some (vI fin.1)) fin.2) μ 100 [(0, vO a0), (1, vI x1), (2, vI x2), (3, vI x3), (4, vI x4), (5, vI x5), (6, vI x6)] [] := by
  unfold s_X11_rowOf_l100_st at h
  refine r_iload C 6 dX11_rowOf_100 rfl ?_
  refine r_aload_n C 0 dX11_rowOf_102 rfl rfl ?_
  obtain ⟨v12, ev12, h⟩ := bs h
  refine r_getR C (c := 9) (r := (RX11, TX11, 38)) rfl 4 (by decide) rfl ev12 q1317 dX11_rowOf_103 ?_
  refine r_iconst C dX11_rowOf_106 ?_
  obtain ⟨v13, ev13, h⟩ := bs h
  refine r_iald C ev13 dX11_rowOf_107 ?_
  refine r_icmp_gt C dX11_rowOf_108 (tgt := 145) (by decide) (fun c14 => ?_) (fun c14 => ?_)
  · have h := it_ h c14
    refine r_iinc C 5 [(5, vI (x5 + 1)), (0, vO a0), (1, vI x1), (2, vI x2), (3, vI x3), (4, vI x4), (6, vI x6)] dX11_rowOf_145 rfl (by decide) rfl ?_
    refine r_goto C dX11_rowOf_148 (tgt := 3) (by decide) ?_
    cases h
    refine r_sub [1, 2, 3, 4, 5, 0] rfl ?_
    exact hK
  · have h := ie_ h c14
    refine r_aload_n C 0 dX11_rowOf_111 rfl rfl ?_
    obtain ⟨v15, ev15, h⟩ := bs h
    refine r_getR C (c := 9) (r := (RX11, TX11, 38)) rfl 22 (by decide) rfl ev15 q1335 dX11_rowOf_112 ?_
    refine r_iload_n C 3 dX11_rowOf_115 rfl rfl ?_
    refine r_iload C 5 dX11_rowOf_116 rfl ?_
    refine r_aload_n C 0 dX11_rowOf_118 rfl rfl ?_
    obtain ⟨v16, ev16, h⟩ := bs h
    refine r_getR C (c := 9) (r := (RX11, TX11, 38)) rfl 4 (by decide) rfl ev16 q1317 dX11_rowOf_119 ?_
    refine r_iconst C dX11_rowOf_122 ?_
    obtain ⟨v17, ev17, h⟩ := bs h
    refine r_iald C ev17 dX11_rowOf_123 ?_
    refine r_iconst C dX11_rowOf_124 ?_
    refine r_iadd C dX11_rowOf_125 ?_
    refine r_imul C dX11_rowOf_126 ?_
    refine r_iadd C dX11_rowOf_127 ?_
    refine r_iload C 6 dX11_rowOf_128 rfl ?_
    refine r_iadd C dX11_rowOf_130 ?_
    refine r_aload_n C 0 dX11_rowOf_131 rfl rfl ?_
    refine r_iconst C dX11_rowOf_132 ?_
    refine r_iload C 6 dX11_rowOf_133 rfl ?_
    obtain ⟨u19, eu19, h⟩ := bs h
    obtain ⟨q18, eq18, h⟩ := bs h
    refine r_callV C (As := [vI 0, vI x6]) (b := a0) (rest := [vI ((x3 + (x5 * (v17 + 1))) + x6), vO v15]) (st1 := [vI q18.1, vI ((x3 + (x5 * (v17 + 1))) + x6), vO v15]) (v := some (vI q18.1)) (r := (RX11, TX11, 38)) (ci := 9) rfl eu19 (m_X11_of C.tr eq18) (lw_V q1629 q1631 qs70 q133 q1632) rfl hdX11_of rfl rfl (Nat.le_of_ble_eq_true rfl) ⟨by decide, by decide⟩ dX11_rowOf_135 rfl ?_
    obtain ⟨m20, em20, h⟩ := bs h
    refine r_iast C em20 dX11_rowOf_138 ?_
    refine r_iinc C 6 [(6, vI (x6 + 1)), (0, vO a0), (1, vI x1), (2, vI x2), (3, vI x3), (4, vI x4), (5, vI x5)] dX11_rowOf_139 rfl (by decide) rfl ?_
    refine r_goto C dX11_rowOf_142 (tgt := 100) (by decide) ?_
    cases h
    refine r_sub [1, 2, 3, 4, 5, 6, 0] rfl ?_
    exact hK
noncomputable def s_X11_rowOf_l100 (a0 : Nat) (x1 : Int) (x2 : Int) (x3 : Int) (x4 : Int) (x5 : Int) (x6 : Int) (μ : Me) : Option ((Int × Me) ⊕ (Int × Me)) :=
  whileO (fun s : Int × Me => s_X11_rowOf_l100_st a0 x1 x2 x3 x4 x5 s.1 s.2) (x6, μ)
theorem e_X11_rowOf_l100 (a0 : Nat) (x1 : Int) (x2 : Int) (x3 : Int) (x4 : Int) (x5 : Int) (x6 : Int) (μ : Me) : s_X11_rowOf_l100 a0 x1 x2 x3 x4 x5 x6 μ = (s_X11_rowOf_l100_st a0 x1 x2 x3 x4 x5 x6 μ).bind fun x => x.elim (fun s : Int × Me => s_X11_rowOf_l100 a0 x1 x2 x3 x4 x5 s.1 s.2) some := whileO_eq _ _
theorem w_X11_rowOf_l100 {Z : Zt} {fin : Int × Me} {w : ((Int × Me) ⊕ (Int × Me))} (C : CX Z yX11_rowOf cX11_rowOf (some .boolean) 8 7) {a0 : Nat} {x1 : Int} {x2 : Int} {x3 : Int} {x4 : Int} {x5 : Int} {x6 : Int} {μ : Me} (h : s_X11_rowOf_l100 a0 x1 x2 x3 x4 x5 x6 μ = some w) (hK : (Sum.elim (fun s : Int × Me => WL Z (QN Z (some (vI fin.1)) fin.2) s.2 3 [(0, vO a0), (1, vI x1), (2, vI x2), (3, vI x3), (4, vI x4), (5, vI s.1)] []) (fun r : Int × Me => r = fin)) w) : WL Z (QN Z (some (vI fin.1)) fin.2) μ 100 [(0, vO a0), (1, vI x1), (2, vI x2), (3, vI x3), (4, vI x4), (5, vI x5), (6, vI x6)] [] := by
  refine whileO_walk (w := w) (fun s : Int × Me => WL Z (QN Z (some (vI fin.1)) fin.2) s.2 100 [(0, vO a0), (1, vI x1), (2, vI x2), (3, vI x3), (4, vI x4), (5, vI x5), (6, vI s.1)] []) (fun s v h2 hi hr => ?_) (x6, μ) h
  refine w_X11_rowOf_l100_st (fin := fin) C h2 ?_
  cases v with
  | inl s2 => exact hi s2 rfl
  | inr r => have e := hr r rfl; subst e; exact hK
noncomputable def s_X11_rowOf_b82 (a0 : Nat) (x1 : Int) (x2 : Int) (x3 : Int) (x4 : Int) (x5 : Int)  (μ : Me) : Option ((Int × Me) ⊕ (Int × Me)) :=
  (gR μ 9 a0 4).bind fun v9 =>
  (aI μ 101 v9 0).bind fun v10 =>
  (pI μ 9 a0 24 (12 * (v10 + 1))).bind fun m11 =>
  s_X11_rowOf_l100 a0 x1 x2 x3 x4 x5 0 m11
theorem w_X11_rowOf_b82 {Z : Zt} {fin : Int × Me} {w : ((Int × Me) ⊕ (Int × Me))} (C : CX Z yX11_rowOf cX11_rowOf (some .boolean) 8 7) {a0 : Nat} {x1 : Int} {x2 : Int} {x3 : Int} {x4 : Int} {x5 : Int}  {μ : Me} (h : s_X11_rowOf_b82 a0 x1 x2 x3 x4 x5 μ = some w) (hK : (Sum.elim (fun s : Int × Me => WL Z (QN Z (some (vI fin.1)) fin.2) s.2 3 [(0, vO a0), (1, vI x1), (2, vI x2), (3, vI x3), (4, vI x4), (5, vI s.1)] []) (fun r : Int × Me => r = fin)) w) : WL Z (QN Z (some (vI fin.1)) fin.2) μ 82 [(0, vO a0), (1, vI x1), (2, vI x2), (3, vI x3), (4, vI x4), (5, vI x5)] [] := by
  unfold s_X11_rowOf_b82 at h
  refine r_aload_n C 0 dX11_rowOf_82 rfl rfl ?_
  refine r_bipush C dX11_rowOf_83 (by decide) ?_
  refine r_aload_n C 0 dX11_rowOf_85 rfl rfl ?_
  obtain ⟨v9, ev9, h⟩ := bs h
  refine r_getR C (c := 9) (r := (RX11, TX11, 38)) rfl 4 (by decide) rfl ev9 q1317 dX11_rowOf_86 ?_
  refine r_iconst C dX11_rowOf_89 ?_
  obtain ⟨v10, ev10, h⟩ := bs h
  refine r_iald C ev10 dX11_rowOf_90 ?_
  refine r_iconst C dX11_rowOf_91 ?_
  refine r_iadd C dX11_rowOf_92 ?_
  refine r_imul C dX11_rowOf_93 ?_
  obtain ⟨m11, em11, h⟩ := bs h
  refine r_putI C (c := 9) (r := (RX11, TX11, 38)) rfl 24 (by decide) rfl ⟨rfl, rfl⟩ rfl em11 q1337 dX11_rowOf_94 ?_
  refine r_iconst C dX11_rowOf_97 ?_
  refine r_istore C [(6, vI 0), (0, vO a0), (1, vI x1), (2, vI x2), (3, vI x3), (4, vI x4), (5, vI x5)] dX11_rowOf_98 (by decide) rfl ?_
  refine r_sub [1, 2, 3, 4, 5, 6, 0] rfl ?_
  exact w_X11_rowOf_l100 (fin := fin) C h hK
noncomputable def s_X11_rowOf_b55 (a0 : Nat) (x1 : Int) (x2 : Int) (x3 : Int) (x4 : Int) (x5 : Int)  (μ : Me) : Option ((Int × Me) ⊕ (Int × Me)) :=
  (ck μ 9 a0).bind fun _ =>
  (s_X11_makes a0 x1 μ).bind fun q5 =>
  (if w32 q5.1 = 0 then
  some (.inr (0, q5.2))
  else
  (if w32 x4 = w32 (-1) then
  s_X11_rowOf_b82 a0 x1 x2 x3 x4 x5 q5.2
  else
  (gR q5.2 9 a0 4).bind fun v21 =>
  (aI q5.2 101 v21 0).bind fun v22 =>
  (if w32 v22 = w32 x4 then
  s_X11_rowOf_b82 a0 x1 x2 x3 x4 x5 q5.2
  else
  some (.inr (0, q5.2)))))
theorem w_X11_rowOf_b55 {Z : Zt} {fin : Int × Me} {w : ((Int × Me) ⊕ (Int × Me))} (C : CX Z yX11_rowOf cX11_rowOf (some .boolean) 8 7) {a0 : Nat} {x1 : Int} {x2 : Int} {x3 : Int} {x4 : Int} {x5 : Int}  {μ : Me} (h : s_X11_rowOf_b55 a0 x1 x2 x3 x4 x5 μ = some w) (hK : (Sum.elim (fun s : Int × Me => WL Z (QN Z (some (vI fin.1)) fin.2) s.2 3 [(0, vO a0), (1, vI x1), (2, vI x2), (3, vI x3), (4, vI x4), (5, vI s.1)] []) (fun r : Int × Me => r = fin)) w) : WL Z (QN Z (some (vI fin.1)) fin.2) μ 55 [(0, vO a0), (1, vI x1), (2, vI x2), (3, vI x3), (4, vI x4), (5, vI x5)] [] := by
  unfold s_X11_rowOf_b55 at h
  refine r_aload_n C 0 dX11_rowOf_55 rfl rfl ?_
  refine r_iload_n C 1 dX11_rowOf_56 rfl rfl ?_
  obtain ⟨u6, eu6, h⟩ := bs h
  obtain ⟨q5, eq5, h⟩ := bs h
  refine r_callV C (As := [vI x1]) (b := a0) (rest := []) (st1 := [vI q5.1]) (v := some (vI q5.1)) (r := (RX11, TX11, 38)) (ci := 9) rfl eu6 (m_X11_makes C.tr eq5) (lw_V q1677 q1679 qs78 q133 q1680) rfl hdX11_makes rfl rfl (Nat.le_of_ble_eq_true rfl) ⟨by decide, by decide⟩ dX11_rowOf_57 rfl ?_
  refine r_if_eq C dX11_rowOf_60 (tgt := 80) (by decide) (fun c7 => ?_) (fun c7 => ?_)
  · have h := it_ h c7
    refine r_iconst C dX11_rowOf_80 ?_
    cases h
    exact r_zret C (Or.inl rfl) hK dX11_rowOf_81
  · have h := ie_ h c7
    refine r_iload C 4 dX11_rowOf_63 rfl ?_
    refine r_iconst C dX11_rowOf_65 ?_
    refine r_icmp_eq C dX11_rowOf_66 (tgt := 82) (by decide) (fun c8 => ?_) (fun c8 => ?_)
    · have h := it_ h c8
      exact w_X11_rowOf_b82 (fin := fin) C h hK
    · have h := ie_ h c8
      refine r_aload_n C 0 dX11_rowOf_69 rfl rfl ?_
      obtain ⟨v21, ev21, h⟩ := bs h
      refine r_getR C (c := 9) (r := (RX11, TX11, 38)) rfl 4 (by decide) rfl ev21 q1317 dX11_rowOf_70 ?_
      refine r_iconst C dX11_rowOf_73 ?_
      obtain ⟨v22, ev22, h⟩ := bs h
      refine r_iald C ev22 dX11_rowOf_74 ?_
      refine r_iload C 4 dX11_rowOf_75 rfl ?_
      refine r_icmp_eq C dX11_rowOf_77 (tgt := 82) (by decide) (fun c23 => ?_) (fun c23 => ?_)
      · have h := it_ h c23
        exact w_X11_rowOf_b82 (fin := fin) C h hK
      · have h := ie_ h c23
        refine r_iconst C dX11_rowOf_80 ?_
        cases h
        exact r_zret C (Or.inl rfl) hK dX11_rowOf_81
noncomputable def s_X11_rowOf_l21_st (a0 : Nat) (x1 : Int) (x2 : Int) (x3 : Int) (x4 : Int) (x5 : Int) (x6 : Int) (μ : Me) : Option ((Int × Me) ⊕ ((Int × Me) ⊕ (Int × Me))) :=
  (if w32 x2 < w32 x6 then
  (s_X11_rowOf_b55 a0 x1 x2 x3 x4 x5 μ).map Sum.inr
  else
  (gR μ 9 a0 23).bind fun v24 =>
  (aI μ 101 v24 ((x5 * (x2 + 1)) + x6)).bind fun v25 =>
  (ck μ 9 a0).bind fun _ =>
  (s_X11_put a0 44 x6 v25 μ).bind fun q26 =>
  some (.inl ((x6 + 1), q26)))
theorem w_X11_rowOf_l21_st {Z : Zt} {fin : Int × Me} {w : ((Int × Me) ⊕ ((Int × Me) ⊕ (Int × Me)))} (C : CX Z yX11_rowOf cX11_rowOf (some .boolean) 8 7) {a0 : Nat} {x1 : Int} {x2 : Int} {x3 : Int} {x4 : Int} {x5 : Int} {x6 : Int} {μ : Me} (h : s_X11_rowOf_l21_st a0 x1 x2 x3 x4 x5 x6 μ = some w) (hK : (Sum.elim (fun s : Int × Me => WL Z (QN Z (some (vI fin.1)) fin.2) s.2 21 [(0, vO a0), (1, vI x1), (2, vI x2), (3, vI x3), (4, vI x4), (5, vI x5), (6, vI s.1)] []) (Sum.elim (fun s : Int × Me => WL Z (QN Z (some (vI fin.1)) fin.2) s.2 3 [(0, vO a0), (1, vI x1), (2, vI x2), (3, vI x3), (4, vI x4), (5, vI s.1)] []) (fun r : Int × Me => r = fin))) w) : WL Z (QN Z (some (vI fin.1)) fin.2) μ 21 [(0, vO a0), (1, vI x1), (2, vI x2), (3, vI x3), (4, vI x4), (5, vI x5), (6, vI x6)] [] := by
  unfold s_X11_rowOf_l21_st at h
  refine r_iload C 6 dX11_rowOf_21 rfl ?_
  refine r_iload_n C 2 dX11_rowOf_23 rfl rfl ?_
  refine r_icmp_gt C dX11_rowOf_24 (tgt := 55) (by decide) (fun c4 => ?_) (fun c4 => ?_)
  · have h := it_ h c4
    obtain ⟨z, hz, ez⟩ := ms_ h; clear h; subst ez; have h := hz; clear hz
    refine r_sub [0, 1, 2, 3, 4, 5] rfl ?_
    exact w_X11_rowOf_b55 (fin := fin) C h hK
  · have h := ie_ h c4
    refine r_aload_n C 0 dX11_rowOf_27 rfl rfl ?_
    refine r_bipush C dX11_rowOf_28 (by decide) ?_
    refine r_iload C 6 dX11_rowOf_30 rfl ?_
    refine r_aload_n C 0 dX11_rowOf_32 rfl rfl ?_
    obtain ⟨v24, ev24, h⟩ := bs h
    refine r_getR C (c := 9) (r := (RX11, TX11, 38)) rfl 23 (by decide) rfl ev24 q1336 dX11_rowOf_33 ?_
    refine r_iload C 5 dX11_rowOf_36 rfl ?_
    refine r_iload_n C 2 dX11_rowOf_38 rfl rfl ?_
    refine r_iconst C dX11_rowOf_39 ?_
    refine r_iadd C dX11_rowOf_40 ?_
    refine r_imul C dX11_rowOf_41 ?_
    refine r_iload C 6 dX11_rowOf_42 rfl ?_
    refine r_iadd C dX11_rowOf_44 ?_
    obtain ⟨v25, ev25, h⟩ := bs h
    refine r_iald C ev25 dX11_rowOf_45 ?_
    obtain ⟨u27, eu27, h⟩ := bs h
    obtain ⟨q26, eq26, h⟩ := bs h
    refine r_callV C (As := [vI 44, vI x6, vI v25]) (b := a0) (rest := []) (st1 := []) (v := none) (r := (RX11, TX11, 38)) (ci := 9) rfl eu27 (m_X11_put C.tr eq26) (lw_V q1621 q1623 qs68 q133 q1624) rfl hdX11_put rfl rfl (Nat.le_of_ble_eq_true rfl) ⟨by decide, by decide⟩ dX11_rowOf_46 rfl ?_
    refine r_iinc C 6 [(6, vI (x6 + 1)), (0, vO a0), (1, vI x1), (2, vI x2), (3, vI x3), (4, vI x4), (5, vI x5)] dX11_rowOf_49 rfl (by decide) rfl ?_
    refine r_goto C dX11_rowOf_52 (tgt := 21) (by decide) ?_
    cases h
    refine r_sub [1, 2, 3, 4, 5, 6, 0] rfl ?_
    exact hK
noncomputable def s_X11_rowOf_l21 (a0 : Nat) (x1 : Int) (x2 : Int) (x3 : Int) (x4 : Int) (x5 : Int) (x6 : Int) (μ : Me) : Option ((Int × Me) ⊕ (Int × Me)) :=
  whileO (fun s : Int × Me => s_X11_rowOf_l21_st a0 x1 x2 x3 x4 x5 s.1 s.2) (x6, μ)
theorem e_X11_rowOf_l21 (a0 : Nat) (x1 : Int) (x2 : Int) (x3 : Int) (x4 : Int) (x5 : Int) (x6 : Int) (μ : Me) : s_X11_rowOf_l21 a0 x1 x2 x3 x4 x5 x6 μ = (s_X11_rowOf_l21_st a0 x1 x2 x3 x4 x5 x6 μ).bind fun x => x.elim (fun s : Int × Me => s_X11_rowOf_l21 a0 x1 x2 x3 x4 x5 s.1 s.2) some := whileO_eq _ _
theorem w_X11_rowOf_l21 {Z : Zt} {fin : Int × Me} {w : ((Int × Me) ⊕ (Int × Me))} (C : CX Z yX11_rowOf cX11_rowOf (some .boolean) 8 7) {a0 : Nat} {x1 : Int} {x2 : Int} {x3 : Int} {x4 : Int} {x5 : Int} {x6 : Int} {μ : Me} (h : s_X11_rowOf_l21 a0 x1 x2 x3 x4 x5 x6 μ = some w) (hK : (Sum.elim (fun s : Int × Me => WL Z (QN Z (some (vI fin.1)) fin.2) s.2 3 [(0, vO a0), (1, vI x1), (2, vI x2), (3, vI x3), (4, vI x4), (5, vI s.1)] []) (fun r : Int × Me => r = fin)) w) : WL Z (QN Z (some (vI fin.1)) fin.2) μ 21 [(0, vO a0), (1, vI x1), (2, vI x2), (3, vI x3), (4, vI x4), (5, vI x5), (6, vI x6)] [] := by
  refine whileO_walk (w := w) (fun s : Int × Me => WL Z (QN Z (some (vI fin.1)) fin.2) s.2 21 [(0, vO a0), (1, vI x1), (2, vI x2), (3, vI x3), (4, vI x4), (5, vI x5), (6, vI s.1)] []) (fun s v h2 hi hr => ?_) (x6, μ) h
  refine w_X11_rowOf_l21_st (fin := fin) C h2 ?_
  cases v with
  | inl s2 => exact hi s2 rfl
  | inr r => have e := hr r rfl; subst e; exact hK
noncomputable def s_X11_rowOf_l3_st (a0 : Nat) (x1 : Int) (x2 : Int) (x3 : Int) (x4 : Int) (x5 : Int) (μ : Me) : Option ((Int × Me) ⊕ (Int × Me)) :=
  (if w32 12 ≤ w32 x5 then
  some (.inr (1, μ))
  else
  (gR μ 9 a0 4).bind fun v2 =>
  (uI μ v2 44 x2).bind fun m3 =>
  s_X11_rowOf_l21 a0 x1 x2 x3 x4 x5 0 m3)
theorem w_X11_rowOf_l3_st {Z : Zt} {fin : Int × Me} {w : ((Int × Me) ⊕ (Int × Me))} (C : CX Z yX11_rowOf cX11_rowOf (some .boolean) 8 7) {a0 : Nat} {x1 : Int} {x2 : Int} {x3 : Int} {x4 : Int} {x5 : Int} {μ : Me} (h : s_X11_rowOf_l3_st a0 x1 x2 x3 x4 x5 μ = some w) (hK : (Sum.elim (fun s : Int × Me => WL Z (QN Z (some (vI fin.1)) fin.2) s.2 3 [(0, vO a0), (1, vI x1), (2, vI x2), (3, vI x3), (4, vI x4), (5, vI s.1)] []) (fun r : Int × Me => r = fin)) w) : WL Z (QN Z (some (vI fin.1)) fin.2) μ 3 [(0, vO a0), (1, vI x1), (2, vI x2), (3, vI x3), (4, vI x4), (5, vI x5)] [] := by
  unfold s_X11_rowOf_l3_st at h
  refine r_iload C 5 dX11_rowOf_3 rfl ?_
  refine r_bipush C dX11_rowOf_5 (by decide) ?_
  refine r_icmp_ge C dX11_rowOf_7 (tgt := 151) (by decide) (fun c1 => ?_) (fun c1 => ?_)
  · have h := it_ h c1
    refine r_iconst C dX11_rowOf_151 ?_
    cases h
    exact r_zret C (Or.inr rfl) hK dX11_rowOf_152
  · have h := ie_ h c1
    refine r_aload_n C 0 dX11_rowOf_10 rfl rfl ?_
    obtain ⟨v2, ev2, h⟩ := bs h
    refine r_getR C (c := 9) (r := (RX11, TX11, 38)) rfl 4 (by decide) rfl ev2 q1317 dX11_rowOf_11 ?_
    refine r_bipush C dX11_rowOf_14 (by decide) ?_
    refine r_iload_n C 2 dX11_rowOf_16 rfl rfl ?_
    obtain ⟨m3, em3, h⟩ := bs h
    refine r_iast C em3 dX11_rowOf_17 ?_
    refine r_iconst C dX11_rowOf_18 ?_
    refine r_istore C [(6, vI 0), (0, vO a0), (1, vI x1), (2, vI x2), (3, vI x3), (4, vI x4), (5, vI x5)] dX11_rowOf_19 (by decide) rfl ?_
    refine r_sub [1, 2, 3, 4, 5, 6, 0] rfl ?_
    exact w_X11_rowOf_l21 (fin := fin) C h hK
noncomputable def s_X11_rowOf_l3 (a0 : Nat) (x1 : Int) (x2 : Int) (x3 : Int) (x4 : Int) (x5 : Int) (μ : Me) : Option (Int × Me) :=
  whileO (fun s : Int × Me => s_X11_rowOf_l3_st a0 x1 x2 x3 x4 s.1 s.2) (x5, μ)
theorem e_X11_rowOf_l3 (a0 : Nat) (x1 : Int) (x2 : Int) (x3 : Int) (x4 : Int) (x5 : Int) (μ : Me) : s_X11_rowOf_l3 a0 x1 x2 x3 x4 x5 μ = (s_X11_rowOf_l3_st a0 x1 x2 x3 x4 x5 μ).bind fun x => x.elim (fun s : Int × Me => s_X11_rowOf_l3 a0 x1 x2 x3 x4 s.1 s.2) some := whileO_eq _ _
theorem w_X11_rowOf_l3 {Z : Zt} {fin : Int × Me} {w : (Int × Me)} (C : CX Z yX11_rowOf cX11_rowOf (some .boolean) 8 7) {a0 : Nat} {x1 : Int} {x2 : Int} {x3 : Int} {x4 : Int} {x5 : Int} {μ : Me} (h : s_X11_rowOf_l3 a0 x1 x2 x3 x4 x5 μ = some w) (hK : (fun r : Int × Me => r = fin) w) : WL Z (QN Z (some (vI fin.1)) fin.2) μ 3 [(0, vO a0), (1, vI x1), (2, vI x2), (3, vI x3), (4, vI x4), (5, vI x5)] [] := by
  refine whileO_walk (w := w) (fun s : Int × Me => WL Z (QN Z (some (vI fin.1)) fin.2) s.2 3 [(0, vO a0), (1, vI x1), (2, vI x2), (3, vI x3), (4, vI x4), (5, vI s.1)] []) (fun s v h2 hi hr => ?_) (x5, μ) h
  refine w_X11_rowOf_l3_st (fin := fin) C h2 ?_
  cases v with
  | inl s2 => exact hi s2 rfl
  | inr r => have e := hr r rfl; subst e; exact hK
noncomputable def s_X11_rowOf (a0 : Nat) (x1 : Int) (x2 : Int) (x3 : Int) (x4 : Int) (μ : Me) : Option (Int × Me) :=
  s_X11_rowOf_l3 a0 x1 x2 x3 x4 0 μ
theorem w_X11_rowOf {Z : Zt} {fin : Int × Me} {w : Int × Me} (C : CX Z yX11_rowOf cX11_rowOf (some .boolean) 8 7) {a0 : Nat} {x1 : Int} {x2 : Int} {x3 : Int} {x4 : Int} {μ : Me} (h : s_X11_rowOf a0 x1 x2 x3 x4 μ = some w) (hK : w = fin) : WL Z (QN Z (some (vI fin.1)) fin.2) μ 0 [(0, vO a0), (1, vI x1), (2, vI x2), (3, vI x3), (4, vI x4)] [] := by
  unfold s_X11_rowOf at h
  refine r_iconst C dX11_rowOf_0 ?_
  refine r_istore C [(5, vI 0), (0, vO a0), (1, vI x1), (2, vI x2), (3, vI x3), (4, vI x4)] dX11_rowOf_1 (by decide) rfl ?_
  refine r_sub [1, 2, 3, 4, 5, 0] rfl ?_
  exact w_X11_rowOf_l3 (fin := fin) C h hK
theorem hdX11_rowOf : zhd yX11_rowOf 4 := by decide +kernel
theorem m_X11_rowOf {l : Launch} {D : va_G} {b0 : Nat} (hl : l.stackTraces = false) {a0 : Nat} {x1 : Int} {x2 : Int} {x3 : Int} {x4 : Int} {μ : Me} {w : Int × Me} (h : s_X11_rowOf a0 x1 x2 x3 x4 μ = some w) : MN l D b0 yX11_rowOf (ws_ yX11_rowOf cX11_rowOf 7 (some .boolean)) 8 [vO a0, vI x1, vI x2, vI x3, vI x4] μ (some (vI w.1)) w.2 :=
  MN.of hl (by decide +kernel) (Nat.le_of_ble_eq_true rfl) (fun Z C _ _ => w_X11_rowOf C h rfl)
noncomputable def s_X11_firstOf_l2_st (a0 : Nat) (x1 : Int) (x2 : Int) (μ : Me) : Option ((Int × Me) ⊕ (Int × Me)) :=
  (gI μ 9 a0 24).bind fun v1 =>
  (if w32 v1 ≤ w32 x2 then
  some (.inr (x2, μ))
  else
  (gR μ 9 a0 22).bind fun v3 =>
  (aI μ 101 v3 (x1 + x2)).bind fun v4 =>
  (if w32 v4 = 0 then
  some (.inl ((x2 + 1), μ))
  else
  some (.inr (x2, μ))))
theorem w_X11_firstOf_l2_st {Z : Zt} {fin : Int × Me} {w : ((Int × Me) ⊕ (Int × Me))} (C : CX Z yX11_firstOf cX11_firstOf (some .int) 1 3) {a0 : Nat} {x1 : Int} {x2 : Int} {μ : Me} (h : s_X11_firstOf_l2_st a0 x1 x2 μ = some w) (hK : (Sum.elim (fun s : Int × Me => WL Z (QN Z (some (vI fin.1)) fin.2) s.2 2 [(0, vO a0), (1, vI x1), (2, vI s.1)] []) (fun r : Int × Me => r = fin)) w) : WL Z (QN Z (some (vI fin.1)) fin.2) μ 2 [(0, vO a0), (1, vI x1), (2, vI x2)] [] := by
  unfold s_X11_firstOf_l2_st at h
  refine r_iload_n C 2 dX11_firstOf_2 rfl rfl ?_
  refine r_aload_n C 0 dX11_firstOf_3 rfl rfl ?_
  obtain ⟨v1, ev1, h⟩ := bs h
  refine r_getI C (c := 9) (r := (RX11, TX11, 38)) rfl 24 (by decide) rfl ev1 q1337 dX11_firstOf_4 ?_
  refine r_icmp_ge C dX11_firstOf_7 (tgt := 27) (by decide) (fun c2 => ?_) (fun c2 => ?_)
  · have h := it_ h c2
    refine r_iload_n C 2 dX11_firstOf_27 rfl rfl ?_
    cases h
    exact r_iret C hK dX11_firstOf_28
  · have h := ie_ h c2
    refine r_aload_n C 0 dX11_firstOf_10 rfl rfl ?_
    obtain ⟨v3, ev3, h⟩ := bs h
    refine r_getR C (c := 9) (r := (RX11, TX11, 38)) rfl 22 (by decide) rfl ev3 q1335 dX11_firstOf_11 ?_
    refine r_iload_n C 1 dX11_firstOf_14 rfl rfl ?_
    refine r_iload_n C 2 dX11_firstOf_15 rfl rfl ?_
    refine r_iadd C dX11_firstOf_16 ?_
    obtain ⟨v4, ev4, h⟩ := bs h
    refine r_iald C ev4 dX11_firstOf_17 ?_
    refine r_if_ne C dX11_firstOf_18 (tgt := 27) (by decide) (fun c5 => ?_) (fun c5 => ?_)
    · have h := ie_ h c5
      refine r_iload_n C 2 dX11_firstOf_27 rfl rfl ?_
      cases h
      exact r_iret C hK dX11_firstOf_28
    · have h := it_ h c5
      refine r_iinc C 2 [(2, vI (x2 + 1)), (0, vO a0), (1, vI x1)] dX11_firstOf_21 rfl (by decide) rfl ?_
      refine r_goto C dX11_firstOf_24 (tgt := 2) (by decide) ?_
      cases h
      refine r_sub [1, 2, 0] rfl ?_
      exact hK
noncomputable def s_X11_firstOf_l2 (a0 : Nat) (x1 : Int) (x2 : Int) (μ : Me) : Option (Int × Me) :=
  whileO (fun s : Int × Me => s_X11_firstOf_l2_st a0 x1 s.1 s.2) (x2, μ)
theorem e_X11_firstOf_l2 (a0 : Nat) (x1 : Int) (x2 : Int) (μ : Me) : s_X11_firstOf_l2 a0 x1 x2 μ = (s_X11_firstOf_l2_st a0 x1 x2 μ).bind fun x => x.elim (fun s : Int × Me => s_X11_firstOf_l2 a0 x1 s.1 s.2) some := whileO_eq _ _
theorem w_X11_firstOf_l2 {Z : Zt} {fin : Int × Me} {w : (Int × Me)} (C : CX Z yX11_firstOf cX11_firstOf (some .int) 1 3) {a0 : Nat} {x1 : Int} {x2 : Int} {μ : Me} (h : s_X11_firstOf_l2 a0 x1 x2 μ = some w) (hK : (fun r : Int × Me => r = fin) w) : WL Z (QN Z (some (vI fin.1)) fin.2) μ 2 [(0, vO a0), (1, vI x1), (2, vI x2)] [] := by
  refine whileO_walk (w := w) (fun s : Int × Me => WL Z (QN Z (some (vI fin.1)) fin.2) s.2 2 [(0, vO a0), (1, vI x1), (2, vI s.1)] []) (fun s v h2 hi hr => ?_) (x2, μ) h
  refine w_X11_firstOf_l2_st (fin := fin) C h2 ?_
  cases v with
  | inl s2 => exact hi s2 rfl
  | inr r => have e := hr r rfl; subst e; exact hK
noncomputable def s_X11_firstOf (a0 : Nat) (x1 : Int) (μ : Me) : Option (Int × Me) :=
  s_X11_firstOf_l2 a0 x1 0 μ
theorem w_X11_firstOf {Z : Zt} {fin : Int × Me} {w : Int × Me} (C : CX Z yX11_firstOf cX11_firstOf (some .int) 1 3) {a0 : Nat} {x1 : Int} {μ : Me} (h : s_X11_firstOf a0 x1 μ = some w) (hK : w = fin) : WL Z (QN Z (some (vI fin.1)) fin.2) μ 0 [(0, vO a0), (1, vI x1)] [] := by
  unfold s_X11_firstOf at h
  refine r_iconst C dX11_firstOf_0 ?_
  refine r_istore_n C [(2, vI 0), (0, vO a0), (1, vI x1)] dX11_firstOf_1 rfl (by decide) rfl ?_
  refine r_sub [1, 2, 0] rfl ?_
  exact w_X11_firstOf_l2 (fin := fin) C h hK
theorem hdX11_firstOf : zhd yX11_firstOf 1 := by decide +kernel
theorem m_X11_firstOf {l : Launch} {D : va_G} {b0 : Nat} (hl : l.stackTraces = false) {a0 : Nat} {x1 : Int} {μ : Me} {w : Int × Me} (h : s_X11_firstOf a0 x1 μ = some w) : MN l D b0 yX11_firstOf (ws_ yX11_firstOf cX11_firstOf 3 (some .int)) 1 [vO a0, vI x1] μ (some (vI w.1)) w.2 :=
  MN.of hl (by decide +kernel) (Nat.le_of_ble_eq_true rfl) (fun Z C _ _ => w_X11_firstOf C h rfl)
noncomputable def s_X11_isNew_b115 (a0 : Nat) (x1 : Int)  (μ : Me) : Option (Int × Me) :=
  (ck μ 9 a0).bind fun _ =>
  (s_X11_firstOf a0 x1 μ).bind fun q2 =>
  (gI q2.2 9 a0 24).bind fun v4 =>
  (if w32 v4 ≤ w32 q2.1 then
  some (0, q2.2)
  else
  some (1, q2.2))
theorem w_X11_isNew_b115 {Z : Zt} {fin : Int × Me} {w : (Int × Me)} (C : CX Z yX11_isNew cX11_isNew (some .boolean) 5 7) {a0 : Nat} {x1 : Int}  {μ : Me} (h : s_X11_isNew_b115 a0 x1 μ = some w) (hK : (fun r : Int × Me => r = fin) w) : WL Z (QN Z (some (vI fin.1)) fin.2) μ 115 [(0, vO a0), (1, vI x1)] [] := by
  unfold s_X11_isNew_b115 at h
  refine r_aload_n C 0 dX11_isNew_115 rfl rfl ?_
  refine r_iload_n C 1 dX11_isNew_116 rfl rfl ?_
  obtain ⟨u3, eu3, h⟩ := bs h
  obtain ⟨q2, eq2, h⟩ := bs h
  refine r_callV C (As := [vI x1]) (b := a0) (rest := []) (st1 := [vI q2.1]) (v := some (vI q2.1)) (r := (RX11, TX11, 38)) (ci := 9) rfl eu3 (m_X11_firstOf C.tr eq2) (lw_V q1765 q1767 qs94 q133 q1768) rfl hdX11_firstOf rfl rfl (Nat.le_of_ble_eq_true rfl) ⟨by decide, by decide⟩ dX11_isNew_117 rfl ?_
  refine r_aload_n C 0 dX11_isNew_120 rfl rfl ?_
  obtain ⟨v4, ev4, h⟩ := bs h
  refine r_getI C (c := 9) (r := (RX11, TX11, 38)) rfl 24 (by decide) rfl ev4 q1337 dX11_isNew_121 ?_
  refine r_icmp_ge C dX11_isNew_124 (tgt := 131) (by decide) (fun c5 => ?_) (fun c5 => ?_)
  · have h := it_ h c5
    refine r_iconst C dX11_isNew_131 ?_
    cases h
    exact r_zret C (Or.inl rfl) hK dX11_isNew_132
  · have h := ie_ h c5
    refine r_iconst C dX11_isNew_127 ?_
    refine r_goto C dX11_isNew_128 (tgt := 132) (by decide) ?_
    cases h
    exact r_zret C (Or.inr rfl) hK dX11_isNew_132
noncomputable def s_X11_isNew_l53_st (a0 : Nat) (x1 : Int) (x2 : Int) (x3 : Int) (x5 : Int) (x6 : Int) (μ : Me) : Option ((Int × Me) ⊕ ((Int × Me) ⊕ (Int × Me))) :=
  (gI μ 9 a0 24).bind fun v16 =>
  (if w32 v16 ≤ w32 x6 then
  some (.inr (.inl ((x3 + 1), μ)))
  else
  (gR μ 9 a0 22).bind fun v18 =>
  (gR μ 9 a0 22).bind fun v19 =>
  (aI μ 101 v19 (x1 + x6)).bind fun v20 =>
  (gR μ 9 a0 22).bind fun v21 =>
  (aI μ 101 v21 ((492 * x3) + x6)).bind fun v22 =>
  (ck μ 9 a0).bind fun _ =>
  (s_X11_times a0 x5 v22 μ).bind fun q23 =>
  (ck q23.2 9 a0).bind fun _ =>
  (s_X11_less a0 v20 q23.1 q23.2).bind fun q25 =>
  (uI q25.2 v18 (x1 + x6) q25.1).bind fun m27 =>
  some (.inl ((x6 + 1), m27)))
theorem w_X11_isNew_l53_st {Z : Zt} {fin : Int × Me} {w : ((Int × Me) ⊕ ((Int × Me) ⊕ (Int × Me)))} (C : CX Z yX11_isNew cX11_isNew (some .boolean) 5 7) {a0 : Nat} {x1 : Int} {x2 : Int} {x3 : Int} {x5 : Int} {x6 : Int} {μ : Me} (h : s_X11_isNew_l53_st a0 x1 x2 x3 x5 x6 μ = some w) (hK : (Sum.elim (fun s : Int × Me => WL Z (QN Z (some (vI fin.1)) fin.2) s.2 53 [(0, vO a0), (1, vI x1), (2, vI x2), (3, vI x3), (5, vI x5), (6, vI s.1)] []) (Sum.elim (fun s : Int × Me => WL Z (QN Z (some (vI fin.1)) fin.2) s.2 2 [(0, vO a0), (1, vI x1), (2, vI x2), (3, vI s.1)] []) (fun r : Int × Me => r = fin))) w) : WL Z (QN Z (some (vI fin.1)) fin.2) μ 53 [(0, vO a0), (1, vI x1), (2, vI x2), (3, vI x3), (5, vI x5), (6, vI x6)] [] := by
  unfold s_X11_isNew_l53_st at h
  refine r_iload C 5 dX11_isNew_53 rfl ?_
  refine r_aload_n C 0 dX11_isNew_55 rfl rfl ?_
  obtain ⟨v16, ev16, h⟩ := bs h
  refine r_getI C (c := 9) (r := (RX11, TX11, 38)) rfl 24 (by decide) rfl ev16 q1337 dX11_isNew_56 ?_
  refine r_icmp_ge C dX11_isNew_59 (tgt := 109) (by decide) (fun c17 => ?_) (fun c17 => ?_)
  · have h := it_ h c17
    refine r_iinc C 3 [(3, vI (x3 + 1)), (0, vO a0), (1, vI x1), (2, vI x2), (5, vI x5), (6, vI x6)] dX11_isNew_109 rfl (by decide) rfl ?_
    refine r_goto C dX11_isNew_112 (tgt := 2) (by decide) ?_
    cases h
    refine r_sub [1, 2, 3, 0] rfl ?_
    exact hK
  · have h := ie_ h c17
    refine r_aload_n C 0 dX11_isNew_62 rfl rfl ?_
    obtain ⟨v18, ev18, h⟩ := bs h
    refine r_getR C (c := 9) (r := (RX11, TX11, 38)) rfl 22 (by decide) rfl ev18 q1335 dX11_isNew_63 ?_
    refine r_iload_n C 1 dX11_isNew_66 rfl rfl ?_
    refine r_iload C 5 dX11_isNew_67 rfl ?_
    refine r_iadd C dX11_isNew_69 ?_
    refine r_aload_n C 0 dX11_isNew_70 rfl rfl ?_
    refine r_aload_n C 0 dX11_isNew_71 rfl rfl ?_
    obtain ⟨v19, ev19, h⟩ := bs h
    refine r_getR C (c := 9) (r := (RX11, TX11, 38)) rfl 22 (by decide) rfl ev19 q1335 dX11_isNew_72 ?_
    refine r_iload_n C 1 dX11_isNew_75 rfl rfl ?_
    refine r_iload C 5 dX11_isNew_76 rfl ?_
    refine r_iadd C dX11_isNew_78 ?_
    obtain ⟨v20, ev20, h⟩ := bs h
    refine r_iald C ev20 dX11_isNew_79 ?_
    refine r_aload_n C 0 dX11_isNew_80 rfl rfl ?_
    refine r_iload C 4 dX11_isNew_81 rfl ?_
    refine r_aload_n C 0 dX11_isNew_83 rfl rfl ?_
    obtain ⟨v21, ev21, h⟩ := bs h
    refine r_getR C (c := 9) (r := (RX11, TX11, 38)) rfl 22 (by decide) rfl ev21 q1335 dX11_isNew_84 ?_
    refine r_sipush C dX11_isNew_87 (by decide) ?_
    refine r_iload_n C 3 dX11_isNew_90 rfl rfl ?_
    refine r_imul C dX11_isNew_91 ?_
    refine r_iload C 5 dX11_isNew_92 rfl ?_
    refine r_iadd C dX11_isNew_94 ?_
    obtain ⟨v22, ev22, h⟩ := bs h
    refine r_iald C ev22 dX11_isNew_95 ?_
    obtain ⟨u24, eu24, h⟩ := bs h
    obtain ⟨q23, eq23, h⟩ := bs h
    refine r_callV C (As := [vI x5, vI v22]) (b := a0) (rest := [vI v20, vO a0, vI (x1 + x6), vO v18]) (st1 := [vI q23.1, vI v20, vO a0, vI (x1 + x6), vO v18]) (v := some (vI q23.1)) (r := (RX11, TX11, 38)) (ci := 9) rfl eu24 (m_X11_times C.tr eq23) (lw_V q1541 q1543 qs54 q133 q1544) rfl hdX11_times rfl rfl (Nat.le_of_ble_eq_true rfl) ⟨by decide, by decide⟩ dX11_isNew_96 rfl ?_
    obtain ⟨u26, eu26, h⟩ := bs h
    obtain ⟨q25, eq25, h⟩ := bs h
    refine r_callV C (As := [vI v20, vI q23.1]) (b := a0) (rest := [vI (x1 + x6), vO v18]) (st1 := [vI q25.1, vI (x1 + x6), vO v18]) (v := some (vI q25.1)) (r := (RX11, TX11, 38)) (ci := 9) rfl eu26 (m_X11_less C.tr eq25) (lw_V q1545 q1547 qs55 q133 q1548) rfl hdX11_less rfl rfl (Nat.le_of_ble_eq_true rfl) ⟨by decide, by decide⟩ dX11_isNew_99 rfl ?_
    obtain ⟨m27, em27, h⟩ := bs h
    refine r_iast C em27 dX11_isNew_102 ?_
    refine r_iinc C 5 [(6, vI (x6 + 1)), (0, vO a0), (1, vI x1), (2, vI x2), (3, vI x3), (5, vI x5)] dX11_isNew_103 rfl (by decide) rfl ?_
    refine r_goto C dX11_isNew_106 (tgt := 53) (by decide) ?_
    cases h
    refine r_sub [1, 2, 3, 4, 5, 0] rfl ?_
    exact hK
noncomputable def s_X11_isNew_l53 (a0 : Nat) (x1 : Int) (x2 : Int) (x3 : Int) (x5 : Int) (x6 : Int) (μ : Me) : Option ((Int × Me) ⊕ (Int × Me)) :=
  whileO (fun s : Int × Me => s_X11_isNew_l53_st a0 x1 x2 x3 x5 s.1 s.2) (x6, μ)
theorem e_X11_isNew_l53 (a0 : Nat) (x1 : Int) (x2 : Int) (x3 : Int) (x5 : Int) (x6 : Int) (μ : Me) : s_X11_isNew_l53 a0 x1 x2 x3 x5 x6 μ = (s_X11_isNew_l53_st a0 x1 x2 x3 x5 x6 μ).bind fun x => x.elim (fun s : Int × Me => s_X11_isNew_l53 a0 x1 x2 x3 x5 s.1 s.2) some := whileO_eq _ _
theorem w_X11_isNew_l53 {Z : Zt} {fin : Int × Me} {w : ((Int × Me) ⊕ (Int × Me))} (C : CX Z yX11_isNew cX11_isNew (some .boolean) 5 7) {a0 : Nat} {x1 : Int} {x2 : Int} {x3 : Int} {x5 : Int} {x6 : Int} {μ : Me} (h : s_X11_isNew_l53 a0 x1 x2 x3 x5 x6 μ = some w) (hK : (Sum.elim (fun s : Int × Me => WL Z (QN Z (some (vI fin.1)) fin.2) s.2 2 [(0, vO a0), (1, vI x1), (2, vI x2), (3, vI s.1)] []) (fun r : Int × Me => r = fin)) w) : WL Z (QN Z (some (vI fin.1)) fin.2) μ 53 [(0, vO a0), (1, vI x1), (2, vI x2), (3, vI x3), (5, vI x5), (6, vI x6)] [] := by
  refine whileO_walk (w := w) (fun s : Int × Me => WL Z (QN Z (some (vI fin.1)) fin.2) s.2 53 [(0, vO a0), (1, vI x1), (2, vI x2), (3, vI x3), (5, vI x5), (6, vI s.1)] []) (fun s v h2 hi hr => ?_) (x6, μ) h
  refine w_X11_isNew_l53_st (fin := fin) C h2 ?_
  cases v with
  | inl s2 => exact hi s2 rfl
  | inr r => have e := hr r rfl; subst e; exact hK
noncomputable def s_X11_isNew_l2_st (a0 : Nat) (x1 : Int) (x2 : Int) (x3 : Int) (μ : Me) : Option ((Int × Me) ⊕ (Int × Me)) :=
  (if w32 x2 ≤ w32 x3 then
  (s_X11_isNew_b115 a0 x1 μ).map Sum.inr
  else
  (ck μ 9 a0).bind fun _ =>
  (s_X11_firstOf a0 (492 * x3) μ).bind fun q6 =>
  (gR q6.2 9 a0 22).bind fun v8 =>
  (aI q6.2 101 v8 (x1 + q6.1)).bind fun v9 =>
  (gR q6.2 9 a0 22).bind fun v10 =>
  (aI q6.2 101 v10 ((492 * x3) + q6.1)).bind fun v11 =>
  (ck q6.2 9 a0).bind fun _ =>
  (s_X11_inverse a0 v11 q6.2).bind fun q12 =>
  (ck q12.2 9 a0).bind fun _ =>
  (s_X11_times a0 v9 q12.1 q12.2).bind fun q14 =>
  s_X11_isNew_l53 a0 x1 x2 x3 q14.1 0 q14.2)
theorem w_X11_isNew_l2_st {Z : Zt} {fin : Int × Me} {w : ((Int × Me) ⊕ (Int × Me))} (C : CX Z yX11_isNew cX11_isNew (some .boolean) 5 7) {a0 : Nat} {x1 : Int} {x2 : Int} {x3 : Int} {μ : Me} (h : s_X11_isNew_l2_st a0 x1 x2 x3 μ = some w) (hK : (Sum.elim (fun s : Int × Me => WL Z (QN Z (some (vI fin.1)) fin.2) s.2 2 [(0, vO a0), (1, vI x1), (2, vI x2), (3, vI s.1)] []) (fun r : Int × Me => r = fin)) w) : WL Z (QN Z (some (vI fin.1)) fin.2) μ 2 [(0, vO a0), (1, vI x1), (2, vI x2), (3, vI x3)] [] := by
  unfold s_X11_isNew_l2_st at h
  refine r_iload_n C 3 dX11_isNew_2 rfl rfl ?_
  refine r_iload_n C 2 dX11_isNew_3 rfl rfl ?_
  refine r_icmp_ge C dX11_isNew_4 (tgt := 115) (by decide) (fun c1 => ?_) (fun c1 => ?_)
  · have h := it_ h c1
    obtain ⟨z, hz, ez⟩ := ms_ h; clear h; subst ez; have h := hz; clear hz
    refine r_sub [0, 1] rfl ?_
    exact w_X11_isNew_b115 (fin := fin) C h hK
  · have h := ie_ h c1
    refine r_aload_n C 0 dX11_isNew_7 rfl rfl ?_
    refine r_sipush C dX11_isNew_8 (by decide) ?_
    refine r_iload_n C 3 dX11_isNew_11 rfl rfl ?_
    refine r_imul C dX11_isNew_12 ?_
    obtain ⟨u7, eu7, h⟩ := bs h
    obtain ⟨q6, eq6, h⟩ := bs h
    refine r_callV C (As := [vI (492 * x3)]) (b := a0) (rest := []) (st1 := [vI q6.1]) (v := some (vI q6.1)) (r := (RX11, TX11, 38)) (ci := 9) rfl eu7 (m_X11_firstOf C.tr eq6) (lw_V q1765 q1767 qs94 q133 q1768) rfl hdX11_firstOf rfl rfl (Nat.le_of_ble_eq_true rfl) ⟨by decide, by decide⟩ dX11_isNew_13 rfl ?_
    refine r_istore C [(4, vI q6.1), (0, vO a0), (1, vI x1), (2, vI x2), (3, vI x3)] dX11_isNew_16 (by decide) rfl ?_
    refine r_aload_n C 1 dX11_isNew_18 rfl rfl ?_
    refine r_aload_n C 1 dX11_isNew_19 rfl rfl ?_
    obtain ⟨v8, ev8, h⟩ := bs h
    refine r_getR C (c := 9) (r := (RX11, TX11, 38)) rfl 22 (by decide) rfl ev8 q1335 dX11_isNew_20 ?_
    refine r_iload_n C 2 dX11_isNew_23 rfl rfl ?_
    refine r_iload C 0 dX11_isNew_24 rfl ?_
    refine r_iadd C dX11_isNew_26 ?_
    obtain ⟨v9, ev9, h⟩ := bs h
    refine r_iald C ev9 dX11_isNew_27 ?_
    refine r_aload_n C 1 dX11_isNew_28 rfl rfl ?_
    refine r_aload_n C 1 dX11_isNew_29 rfl rfl ?_
    obtain ⟨v10, ev10, h⟩ := bs h
    refine r_getR C (c := 9) (r := (RX11, TX11, 38)) rfl 22 (by decide) rfl ev10 q1335 dX11_isNew_30 ?_
    refine r_sipush C dX11_isNew_33 (by decide) ?_
    refine r_iload_n C 4 dX11_isNew_36 rfl rfl ?_
    refine r_imul C dX11_isNew_37 ?_
    refine r_iload C 0 dX11_isNew_38 rfl ?_
    refine r_iadd C dX11_isNew_40 ?_
    obtain ⟨v11, ev11, h⟩ := bs h
    refine r_iald C ev11 dX11_isNew_41 ?_
    obtain ⟨u13, eu13, h⟩ := bs h
    obtain ⟨q12, eq12, h⟩ := bs h
    refine r_callV C (As := [vI v11]) (b := a0) (rest := [vI v9, vO a0]) (st1 := [vI q12.1, vI v9, vO a0]) (v := some (vI q12.1)) (r := (RX11, TX11, 38)) (ci := 9) rfl eu13 (m_X11_inverse C.tr eq12) (lw_V q1581 q1583 qs62 q133 q1584) rfl hdX11_inverse rfl rfl (Nat.le_of_ble_eq_true rfl) ⟨by decide, by decide⟩ dX11_isNew_42 rfl ?_
    obtain ⟨u15, eu15, h⟩ := bs h
    obtain ⟨q14, eq14, h⟩ := bs h
    refine r_callV C (As := [vI v9, vI q12.1]) (b := a0) (rest := []) (st1 := [vI q14.1]) (v := some (vI q14.1)) (r := (RX11, TX11, 38)) (ci := 9) rfl eu15 (m_X11_times C.tr eq14) (lw_V q1541 q1543 qs54 q133 q1544) rfl hdX11_times rfl rfl (Nat.le_of_ble_eq_true rfl) ⟨by decide, by decide⟩ dX11_isNew_45 rfl ?_
    refine r_istore C [(5, vI q14.1), (4, vI q6.1), (0, vO a0), (1, vI x1), (2, vI x2), (3, vI x3)] dX11_isNew_48 (by decide) rfl ?_
    refine r_iconst C dX11_isNew_50 ?_
    refine r_istore C [(6, vI 0), (5, vI q14.1), (4, vI q6.1), (0, vO a0), (1, vI x1), (2, vI x2), (3, vI x3)] dX11_isNew_51 (by decide) rfl ?_
    refine r_sub [3, 4, 5, 6, 1, 0] rfl ?_
    exact w_X11_isNew_l53 (fin := fin) C h hK
noncomputable def s_X11_isNew_l2 (a0 : Nat) (x1 : Int) (x2 : Int) (x3 : Int) (μ : Me) : Option (Int × Me) :=
  whileO (fun s : Int × Me => s_X11_isNew_l2_st a0 x1 x2 s.1 s.2) (x3, μ)
theorem e_X11_isNew_l2 (a0 : Nat) (x1 : Int) (x2 : Int) (x3 : Int) (μ : Me) : s_X11_isNew_l2 a0 x1 x2 x3 μ = (s_X11_isNew_l2_st a0 x1 x2 x3 μ).bind fun x => x.elim (fun s : Int × Me => s_X11_isNew_l2 a0 x1 x2 s.1 s.2) some := whileO_eq _ _
theorem w_X11_isNew_l2 {Z : Zt} {fin : Int × Me} {w : (Int × Me)} (C : CX Z yX11_isNew cX11_isNew (some .boolean) 5 7) {a0 : Nat} {x1 : Int} {x2 : Int} {x3 : Int} {μ : Me} (h : s_X11_isNew_l2 a0 x1 x2 x3 μ = some w) (hK : (fun r : Int × Me => r = fin) w) : WL Z (QN Z (some (vI fin.1)) fin.2) μ 2 [(0, vO a0), (1, vI x1), (2, vI x2), (3, vI x3)] [] := by
  refine whileO_walk (w := w) (fun s : Int × Me => WL Z (QN Z (some (vI fin.1)) fin.2) s.2 2 [(0, vO a0), (1, vI x1), (2, vI x2), (3, vI s.1)] []) (fun s v h2 hi hr => ?_) (x3, μ) h
  refine w_X11_isNew_l2_st (fin := fin) C h2 ?_
  cases v with
  | inl s2 => exact hi s2 rfl
  | inr r => have e := hr r rfl; subst e; exact hK
noncomputable def s_X11_isNew (a0 : Nat) (x1 : Int) (x2 : Int) (μ : Me) : Option (Int × Me) :=
  s_X11_isNew_l2 a0 x1 x2 0 μ
theorem w_X11_isNew {Z : Zt} {fin : Int × Me} {w : Int × Me} (C : CX Z yX11_isNew cX11_isNew (some .boolean) 5 7) {a0 : Nat} {x1 : Int} {x2 : Int} {μ : Me} (h : s_X11_isNew a0 x1 x2 μ = some w) (hK : w = fin) : WL Z (QN Z (some (vI fin.1)) fin.2) μ 0 [(0, vO a0), (1, vI x1), (2, vI x2)] [] := by
  unfold s_X11_isNew at h
  refine r_iconst C dX11_isNew_0 ?_
  refine r_istore_n C [(3, vI 0), (0, vO a0), (1, vI x1), (2, vI x2)] dX11_isNew_1 rfl (by decide) rfl ?_
  refine r_sub [1, 2, 3, 0] rfl ?_
  exact w_X11_isNew_l2 (fin := fin) C h hK
theorem hdX11_isNew : zhd yX11_isNew 2 := by decide +kernel
theorem m_X11_isNew {l : Launch} {D : va_G} {b0 : Nat} (hl : l.stackTraces = false) {a0 : Nat} {x1 : Int} {x2 : Int} {μ : Me} {w : Int × Me} (h : s_X11_isNew a0 x1 x2 μ = some w) : MN l D b0 yX11_isNew (ws_ yX11_isNew cX11_isNew 7 (some .boolean)) 5 [vO a0, vI x1, vI x2] μ (some (vI w.1)) w.2 :=
  MN.of hl (by decide +kernel) (Nat.le_of_ble_eq_true rfl) (fun Z C _ _ => w_X11_isNew C h rfl)
noncomputable def s_X11_basisOf_l18_st (a0 : Nat) (x1 : Int) (x2 : Int) (x4 : Int) (x5 : Int) (x6 : Int) (x7 : Int) (μ : Me) : Option ((Int × Int × Int × Int × Me) ⊕ (Int × Me)) :=
  (gR μ 9 a0 1).bind fun v3 =>
  (aI μ 101 v3 3).bind fun v4 =>
  (if w32 v4 ≤ w32 x7 then
  some (.inr (x5, μ))
  else
  (if w32 (anI (srI x1 x7) 1) = 0 then
  some (.inl (x4, x5, x6, (x7 + 1), μ))
  else
  (ck μ 9 a0).bind fun _ =>
  (s_X11_rowOf a0 x7 x2 (492 * x4) x6 μ).bind fun q7 =>
  (if w32 q7.1 = 0 then
  some (.inr ((-1), q7.2))
  else
  (gR q7.2 9 a0 4).bind fun v10 =>
  (aI q7.2 101 v10 0).bind fun v11 =>
  (ck q7.2 9 a0).bind fun _ =>
  (s_X11_isNew a0 (492 * x4) x4 q7.2).bind fun q12 =>
  (if w32 q12.1 = 0 then
  some (.inl (x4, x5, v11, (x7 + 1), q12.2))
  else
  some (.inl ((x4 + 1), (orI x5 (slI 1 x7)), v11, (x7 + 1), q12.2))))))
theorem w_X11_basisOf_l18_st {Z : Zt} {fin : Int × Me} {w : ((Int × Int × Int × Int × Me) ⊕ (Int × Me))} (C : CX Z yX11_basisOf cX11_basisOf (some .int) 9 8) {a0 : Nat} {x1 : Int} {x2 : Int} {x4 : Int} {x5 : Int} {x6 : Int} {x7 : Int} {μ : Me} (h : s_X11_basisOf_l18_st a0 x1 x2 x4 x5 x6 x7 μ = some w) (hK : (Sum.elim (fun s : Int × Int × Int × Int × Me => WL Z (QN Z (some (vI fin.1)) fin.2) s.2.2.2.2 18 [(0, vO a0), (1, vI x1), (2, vI x2), (4, vI s.1), (5, vI s.2.1), (6, vI s.2.2.1), (7, vI s.2.2.2.1)] []) (fun r : Int × Me => r = fin)) w) : WL Z (QN Z (some (vI fin.1)) fin.2) μ 18 [(0, vO a0), (1, vI x1), (2, vI x2), (4, vI x4), (5, vI x5), (6, vI x6), (7, vI x7)] [] := by
  unfold s_X11_basisOf_l18_st at h
  refine r_iload C 6 dX11_basisOf_18 rfl ?_
  refine r_aload_n C 0 dX11_basisOf_20 rfl rfl ?_
  obtain ⟨v3, ev3, h⟩ := bs h
  refine r_getR C (c := 9) (r := (RX11, TX11, 38)) rfl 1 (by decide) rfl ev3 q1314 dX11_basisOf_21 ?_
  refine r_iconst C dX11_basisOf_24 ?_
  obtain ⟨v4, ev4, h⟩ := bs h
  refine r_iald C ev4 dX11_basisOf_25 ?_
  refine r_icmp_ge C dX11_basisOf_26 (tgt := 105) (by decide) (fun c5 => ?_) (fun c5 => ?_)
  · have h := it_ h c5
    refine r_iload C 4 dX11_basisOf_105 rfl ?_
    cases h
    exact r_iret C hK dX11_basisOf_107
  · have h := ie_ h c5
    refine r_iload_n C 1 dX11_basisOf_29 rfl rfl ?_
    refine r_iload C 6 dX11_basisOf_30 rfl ?_
    refine r_ishr C dX11_basisOf_32 ?_
    refine r_iconst C dX11_basisOf_33 ?_
    refine r_iand C dX11_basisOf_34 ?_
    refine r_if_ne C dX11_basisOf_35 (tgt := 41) (by decide) (fun c6 => ?_) (fun c6 => ?_)
    · have h := ie_ h c6
      refine r_aload_n C 0 dX11_basisOf_41 rfl rfl ?_
      refine r_iload C 6 dX11_basisOf_42 rfl ?_
      refine r_iload_n C 2 dX11_basisOf_44 rfl rfl ?_
      refine r_sipush C dX11_basisOf_45 (by decide) ?_
      refine r_iload C 3 dX11_basisOf_48 rfl ?_
      refine r_imul C dX11_basisOf_50 ?_
      refine r_iload C 5 dX11_basisOf_51 rfl ?_
      obtain ⟨u8, eu8, h⟩ := bs h
      obtain ⟨q7, eq7, h⟩ := bs h
      refine r_callV C (As := [vI x7, vI x2, vI (492 * x4), vI x6]) (b := a0) (rest := []) (st1 := [vI q7.1]) (v := some (vI q7.1)) (r := (RX11, TX11, 38)) (ci := 9) rfl eu8 (m_X11_rowOf C.tr eq7) (lw_V q1757 q1759 qs92 q133 q1760) rfl hdX11_rowOf rfl rfl (Nat.le_of_ble_eq_true rfl) ⟨by decide, by decide⟩ dX11_basisOf_53 rfl ?_
      refine r_if_ne C dX11_basisOf_56 (tgt := 61) (by decide) (fun c9 => ?_) (fun c9 => ?_)
      · have h := ie_ h c9
        refine r_aload_n C 0 dX11_basisOf_61 rfl rfl ?_
        obtain ⟨v10, ev10, h⟩ := bs h
        refine r_getR C (c := 9) (r := (RX11, TX11, 38)) rfl 4 (by decide) rfl ev10 q1317 dX11_basisOf_62 ?_
        refine r_iconst C dX11_basisOf_65 ?_
        obtain ⟨v11, ev11, h⟩ := bs h
        refine r_iald C ev11 dX11_basisOf_66 ?_
        refine r_istore C [(6, vI v11), (0, vO a0), (1, vI x1), (2, vI x2), (4, vI x4), (5, vI x5), (7, vI x7)] dX11_basisOf_67 (by decide) rfl ?_
        refine r_aload_n C 1 dX11_basisOf_69 rfl rfl ?_
        refine r_sipush C dX11_basisOf_70 (by decide) ?_
        refine r_iload C 4 dX11_basisOf_73 rfl ?_
        refine r_imul C dX11_basisOf_75 ?_
        refine r_iload C 4 dX11_basisOf_76 rfl ?_
        obtain ⟨u13, eu13, h⟩ := bs h
        obtain ⟨q12, eq12, h⟩ := bs h
        refine r_callV C (As := [vI (492 * x4), vI x4]) (b := a0) (rest := []) (st1 := [vI q12.1]) (v := some (vI q12.1)) (r := (RX11, TX11, 38)) (ci := 9) rfl eu13 (m_X11_isNew C.tr eq12) (lw_V q1761 q1763 qs93 q133 q1764) rfl hdX11_isNew rfl rfl (Nat.le_of_ble_eq_true rfl) ⟨by decide, by decide⟩ dX11_basisOf_78 rfl ?_
        refine r_if_ne C dX11_basisOf_81 (tgt := 87) (by decide) (fun c14 => ?_) (fun c14 => ?_)
        · have h := ie_ h c14
          refine r_iinc C 4 [(4, vI (x4 + 1)), (6, vI v11), (0, vO a0), (1, vI x1), (2, vI x2), (5, vI x5), (7, vI x7)] dX11_basisOf_87 rfl (by decide) rfl ?_
          refine r_iload C 5 dX11_basisOf_90 rfl ?_
          refine r_iconst C dX11_basisOf_92 ?_
          refine r_iload C 6 dX11_basisOf_93 rfl ?_
          refine r_ishl C dX11_basisOf_95 ?_
          refine r_ior C dX11_basisOf_96 ?_
          refine r_istore C [(5, vI (orI x5 (slI 1 x7))), (4, vI (x4 + 1)), (6, vI v11), (0, vO a0), (1, vI x1), (2, vI x2), (7, vI x7)] dX11_basisOf_97 (by decide) rfl ?_
          refine r_iinc C 6 [(7, vI (x7 + 1)), (5, vI (orI x5 (slI 1 x7))), (4, vI (x4 + 1)), (6, vI v11), (0, vO a0), (1, vI x1), (2, vI x2)] dX11_basisOf_99 rfl (by decide) rfl ?_
          refine r_goto C dX11_basisOf_102 (tgt := 18) (by decide) ?_
          cases h
          refine r_sub [4, 5, 6, 2, 1, 3, 0] rfl ?_
          exact hK
        · have h := it_ h c14
          refine r_goto C dX11_basisOf_84 (tgt := 99) (by decide) ?_
          refine r_iinc C 6 [(7, vI (x7 + 1)), (6, vI v11), (0, vO a0), (1, vI x1), (2, vI x2), (4, vI x4), (5, vI x5)] dX11_basisOf_99 rfl (by decide) rfl ?_
          refine r_goto C dX11_basisOf_102 (tgt := 18) (by decide) ?_
          cases h
          refine r_sub [2, 3, 4, 5, 6, 1, 0] rfl ?_
          exact hK
      · have h := it_ h c9
        refine r_iconst C dX11_basisOf_59 ?_
        cases h
        exact r_iret C hK dX11_basisOf_60
    · have h := it_ h c6
      refine r_goto C dX11_basisOf_38 (tgt := 99) (by decide) ?_
      refine r_iinc C 6 [(7, vI (x7 + 1)), (0, vO a0), (1, vI x1), (2, vI x2), (4, vI x4), (5, vI x5), (6, vI x6)] dX11_basisOf_99 rfl (by decide) rfl ?_
      refine r_goto C dX11_basisOf_102 (tgt := 18) (by decide) ?_
      cases h
      refine r_sub [1, 2, 3, 4, 5, 6, 0] rfl ?_
      exact hK
noncomputable def s_X11_basisOf_l18 (a0 : Nat) (x1 : Int) (x2 : Int) (x4 : Int) (x5 : Int) (x6 : Int) (x7 : Int) (μ : Me) : Option (Int × Me) :=
  whileO (fun s : Int × Int × Int × Int × Me => s_X11_basisOf_l18_st a0 x1 x2 s.1 s.2.1 s.2.2.1 s.2.2.2.1 s.2.2.2.2) (x4, x5, x6, x7, μ)
theorem e_X11_basisOf_l18 (a0 : Nat) (x1 : Int) (x2 : Int) (x4 : Int) (x5 : Int) (x6 : Int) (x7 : Int) (μ : Me) : s_X11_basisOf_l18 a0 x1 x2 x4 x5 x6 x7 μ = (s_X11_basisOf_l18_st a0 x1 x2 x4 x5 x6 x7 μ).bind fun x => x.elim (fun s : Int × Int × Int × Int × Me => s_X11_basisOf_l18 a0 x1 x2 s.1 s.2.1 s.2.2.1 s.2.2.2.1 s.2.2.2.2) some := whileO_eq _ _
theorem w_X11_basisOf_l18 {Z : Zt} {fin : Int × Me} {w : (Int × Me)} (C : CX Z yX11_basisOf cX11_basisOf (some .int) 9 8) {a0 : Nat} {x1 : Int} {x2 : Int} {x4 : Int} {x5 : Int} {x6 : Int} {x7 : Int} {μ : Me} (h : s_X11_basisOf_l18 a0 x1 x2 x4 x5 x6 x7 μ = some w) (hK : (fun r : Int × Me => r = fin) w) : WL Z (QN Z (some (vI fin.1)) fin.2) μ 18 [(0, vO a0), (1, vI x1), (2, vI x2), (4, vI x4), (5, vI x5), (6, vI x6), (7, vI x7)] [] := by
  refine whileO_walk (w := w) (fun s : Int × Int × Int × Int × Me => WL Z (QN Z (some (vI fin.1)) fin.2) s.2.2.2.2 18 [(0, vO a0), (1, vI x1), (2, vI x2), (4, vI s.1), (5, vI s.2.1), (6, vI s.2.2.1), (7, vI s.2.2.2.1)] []) (fun s v h2 hi hr => ?_) (x4, x5, x6, x7, μ) h
  refine w_X11_basisOf_l18_st (fin := fin) C h2 ?_
  cases v with
  | inl s2 => exact hi s2 rfl
  | inr r => have e := hr r rfl; subst e; exact hK
noncomputable def s_X11_basisOf (a0 : Nat) (x1 : Int) (x2 : Int) (x3 : Int) (μ : Me) : Option (Int × Me) :=
  (ck μ 9 a0).bind fun _ =>
  (s_X11_draws a0 x2 x3 μ).bind fun q1 =>
  s_X11_basisOf_l18 a0 x1 x2 0 0 (-1) 0 q1
theorem w_X11_basisOf {Z : Zt} {fin : Int × Me} {w : Int × Me} (C : CX Z yX11_basisOf cX11_basisOf (some .int) 9 8) {a0 : Nat} {x1 : Int} {x2 : Int} {x3 : Int} {μ : Me} (h : s_X11_basisOf a0 x1 x2 x3 μ = some w) (hK : w = fin) : WL Z (QN Z (some (vI fin.1)) fin.2) μ 0 [(0, vO a0), (1, vI x1), (2, vI x2), (3, vI x3)] [] := by
  unfold s_X11_basisOf at h
  refine r_aload_n C 0 dX11_basisOf_0 rfl rfl ?_
  refine r_iload_n C 2 dX11_basisOf_1 rfl rfl ?_
  refine r_iload_n C 3 dX11_basisOf_2 rfl rfl ?_
  obtain ⟨u2, eu2, h⟩ := bs h
  obtain ⟨q1, eq1, h⟩ := bs h
  refine r_callV C (As := [vI x2, vI x3]) (b := a0) (rest := []) (st1 := []) (v := none) (r := (RX11, TX11, 38)) (ci := 9) rfl eu2 (m_X11_draws C.tr eq1) (lw_V q1752 q1754 qs91 q133 q1755) rfl hdX11_draws rfl rfl (Nat.le_of_ble_eq_true rfl) ⟨by decide, by decide⟩ dX11_basisOf_3 rfl ?_
  refine r_iconst C dX11_basisOf_6 ?_
  refine r_istore C [(4, vI 0), (0, vO a0), (1, vI x1), (2, vI x2), (3, vI x3)] dX11_basisOf_7 (by decide) rfl ?_
  refine r_iconst C dX11_basisOf_9 ?_
  refine r_istore C [(5, vI 0), (4, vI 0), (0, vO a0), (1, vI x1), (2, vI x2), (3, vI x3)] dX11_basisOf_10 (by decide) rfl ?_
  refine r_iconst C dX11_basisOf_12 ?_
  refine r_istore C [(6, vI (-1)), (5, vI 0), (4, vI 0), (0, vO a0), (1, vI x1), (2, vI x2), (3, vI x3)] dX11_basisOf_13 (by decide) rfl ?_
  refine r_iconst C dX11_basisOf_15 ?_
  refine r_istore C [(7, vI 0), (6, vI (-1)), (5, vI 0), (4, vI 0), (0, vO a0), (1, vI x1), (2, vI x2), (3, vI x3)] dX11_basisOf_16 (by decide) rfl ?_
  refine r_sub [4, 5, 6, 3, 2, 1, 0] rfl ?_
  exact w_X11_basisOf_l18 (fin := fin) C h hK
theorem hdX11_basisOf : zhd yX11_basisOf 3 := by decide +kernel
theorem m_X11_basisOf {l : Launch} {D : va_G} {b0 : Nat} (hl : l.stackTraces = false) {a0 : Nat} {x1 : Int} {x2 : Int} {x3 : Int} {μ : Me} {w : Int × Me} (h : s_X11_basisOf a0 x1 x2 x3 μ = some w) : MN l D b0 yX11_basisOf (ws_ yX11_basisOf cX11_basisOf 8 (some .int)) 9 [vO a0, vI x1, vI x2, vI x3] μ (some (vI w.1)) w.2 :=
  MN.of hl (by decide +kernel) (Nat.le_of_ble_eq_true rfl) (fun Z C _ _ => w_X11_basisOf C h rfl)
noncomputable def s_X11_span_b21 (a0 : Nat) (x1 : Int) (x2 : Int) (x3 : Int) (t0 : Int) (t1 : Nat) (μ : Me) : Option (Int × Me) :=
  (ck μ 9 t1).bind fun _ =>
  (s_X11_throwsIf t1 t0 1 μ).bind fun q4 =>
  (if w32 q4.1 = 0 then
  (ck q4.2 9 a0).bind fun _ =>
  (s_X11_basisOf a0 x1 x2 x3 q4.2).bind fun q7 =>
  (if 0 ≤ w32 q7.1 then
  (s_J10_bitCount q7.1 q7.2).bind fun q10 =>
  some (q10.1, q10.2)
  else
  some ((-1), q7.2))
  else
  some (0, q4.2))
theorem w_X11_span_b21 {Z : Zt} {fin : Int × Me} {w : (Int × Me)} (C : CX Z yX11_span cX11_span (some .int) 10 5) {a0 : Nat} {x1 : Int} {x2 : Int} {x3 : Int} {t0 : Int} {t1 : Nat} {μ : Me} (h : s_X11_span_b21 a0 x1 x2 x3 t0 t1 μ = some w) (hK : (fun r : Int × Me => r = fin) w) : WL Z (QN Z (some (vI fin.1)) fin.2) μ 21 [(0, vO a0), (1, vI x1), (2, vI x2), (3, vI x3)] [vI t0, vO t1] := by
  unfold s_X11_span_b21 at h
  refine r_iconst C dX11_span_21 ?_
  obtain ⟨u5, eu5, h⟩ := bs h
  obtain ⟨q4, eq4, h⟩ := bs h
  refine r_callV C (As := [vI t0, vI 1]) (b := t1) (rest := []) (st1 := [vI q4.1]) (v := some (vI q4.1)) (r := (RX11, TX11, 38)) (ci := 9) rfl eu5 (m_X11_throwsIf C.tr eq4) (lw_V q1500 q1502 qs49 q133 q1503) rfl hdX11_throwsIf rfl rfl (Nat.le_of_ble_eq_true rfl) ⟨by decide, by decide⟩ dX11_span_22 rfl ?_
  refine r_if_eq C dX11_span_25 (tgt := 30) (by decide) (fun c6 => ?_) (fun c6 => ?_)
  · have h := it_ h c6
    refine r_aload_n C 0 dX11_span_30 rfl rfl ?_
    refine r_iload_n C 1 dX11_span_31 rfl rfl ?_
    refine r_iload_n C 2 dX11_span_32 rfl rfl ?_
    refine r_iload_n C 3 dX11_span_33 rfl rfl ?_
    obtain ⟨u8, eu8, h⟩ := bs h
    obtain ⟨q7, eq7, h⟩ := bs h
    refine r_callV C (As := [vI x1, vI x2, vI x3]) (b := a0) (rest := []) (st1 := [vI q7.1]) (v := some (vI q7.1)) (r := (RX11, TX11, 38)) (ci := 9) rfl eu8 (m_X11_basisOf C.tr eq7) (lw_V q1748 q1750 qs90 q133 q1751) rfl hdX11_basisOf rfl rfl (Nat.le_of_ble_eq_true rfl) ⟨by decide, by decide⟩ dX11_span_34 rfl ?_
    refine r_istore C [(4, vI q7.1), (0, vO a0), (1, vI x1), (2, vI x2), (3, vI x3)] dX11_span_37 (by decide) rfl ?_
    refine r_iload C 0 dX11_span_39 rfl ?_
    refine r_if_ge C dX11_span_41 (tgt := 48) (by decide) (fun c9 => ?_) (fun c9 => ?_)
    · have h := it_ h c9
      refine r_iload C 0 dX11_span_48 rfl ?_
      obtain ⟨q10, eq10, h⟩ := bs h
      refine r_callS C (As := [vI q7.1]) (rest := []) (st1 := [vI q10.1]) (v := some (vI q10.1)) (m_J10_bitCount C.tr eq10) (lw_S q1769 q1770 q148 q1771) hdJ10_bitCount rfl rfl (Nat.le_of_ble_eq_true rfl) ⟨by decide, by decide⟩ dX11_span_50 rfl ?_
      cases h
      exact r_iret C hK dX11_span_53
    · have h := ie_ h c9
      refine r_iconst C dX11_span_44 ?_
      refine r_goto C dX11_span_45 (tgt := 53) (by decide) ?_
      cases h
      exact r_iret C hK dX11_span_53
  · have h := ie_ h c6
    refine r_iconst C dX11_span_28 ?_
    cases h
    exact r_iret C hK dX11_span_29
noncomputable def s_X11_span (a0 : Nat) (x1 : Int) (x2 : Int) (x3 : Int) (μ : Me) : Option (Int × Me) :=
  (pI μ 9 a0 0 0).bind fun m1 =>
  (s_X11_in x2 1 8 m1).bind fun q2 =>
  (if w32 q2.1 = 0 then
  s_X11_span_b21 a0 x1 x2 x3 1 a0 q2.2
  else
  s_X11_span_b21 a0 x1 x2 x3 0 a0 q2.2)
theorem w_X11_span {Z : Zt} {fin : Int × Me} {w : Int × Me} (C : CX Z yX11_span cX11_span (some .int) 10 5) {a0 : Nat} {x1 : Int} {x2 : Int} {x3 : Int} {μ : Me} (h : s_X11_span a0 x1 x2 x3 μ = some w) (hK : w = fin) : WL Z (QN Z (some (vI fin.1)) fin.2) μ 0 [(0, vO a0), (1, vI x1), (2, vI x2), (3, vI x3)] [] := by
  unfold s_X11_span at h
  refine r_aload_n C 0 dX11_span_0 rfl rfl ?_
  refine r_iconst C dX11_span_1 ?_
  obtain ⟨m1, em1, h⟩ := bs h
  refine r_putI C (c := 9) (r := (RX11, TX11, 38)) rfl 0 (by decide) rfl ⟨rfl, rfl⟩ rfl em1 q1313 dX11_span_2 ?_
  refine r_aload_n C 0 dX11_span_5 rfl rfl ?_
  refine r_iload_n C 2 dX11_span_6 rfl rfl ?_
  refine r_iconst C dX11_span_7 ?_
  refine r_bipush C dX11_span_8 (by decide) ?_
  obtain ⟨q2, eq2, h⟩ := bs h
  refine r_callS C (As := [vI x2, vI 1, vI 8]) (rest := [vO a0]) (st1 := [vI q2.1, vO a0]) (v := some (vI q2.1)) (m_X11_in C.tr eq2) (lw_S q1512 q1513 q133 q1514) hdX11_in rfl rfl (Nat.le_of_ble_eq_true rfl) ⟨by decide, by decide⟩ dX11_span_10 rfl ?_
  refine r_if_ne C dX11_span_13 (tgt := 20) (by decide) (fun c3 => ?_) (fun c3 => ?_)
  · have h := ie_ h c3
    refine r_iconst C dX11_span_20 ?_
    exact w_X11_span_b21 (fin := fin) C h hK
  · have h := it_ h c3
    refine r_iconst C dX11_span_16 ?_
    refine r_goto C dX11_span_17 (tgt := 21) (by decide) ?_
    exact w_X11_span_b21 (fin := fin) C h hK
theorem hdX11_span : zhd yX11_span 3 := by decide +kernel
theorem m_X11_span {l : Launch} {D : va_G} {b0 : Nat} (hl : l.stackTraces = false) {a0 : Nat} {x1 : Int} {x2 : Int} {x3 : Int} {μ : Me} {w : Int × Me} (h : s_X11_span a0 x1 x2 x3 μ = some w) : MN l D b0 yX11_span (ws_ yX11_span cX11_span 5 (some .int)) 10 [vO a0, vI x1, vI x2, vI x3] μ (some (vI w.1)) w.2 :=
  MN.of hl (by decide +kernel) (Nat.le_of_ble_eq_true rfl) (fun Z C _ _ => w_X11_span C h rfl)
noncomputable def s_X11_basis_b21 (a0 : Nat) (x1 : Int) (x2 : Int) (x3 : Int) (t0 : Int) (t1 : Nat) (μ : Me) : Option (Int × Me) :=
  (ck μ 9 t1).bind fun _ =>
  (s_X11_throwsIf t1 t0 1 μ).bind fun q4 =>
  (if w32 q4.1 = 0 then
  (ck q4.2 9 a0).bind fun _ =>
  (s_X11_basisOf a0 x1 x2 x3 q4.2).bind fun q7 =>
  some (q7.1, q7.2)
  else
  some (0, q4.2))
theorem w_X11_basis_b21 {Z : Zt} {fin : Int × Me} {w : (Int × Me)} (C : CX Z yX11_basis cX11_basis (some .int) 10 4) {a0 : Nat} {x1 : Int} {x2 : Int} {x3 : Int} {t0 : Int} {t1 : Nat} {μ : Me} (h : s_X11_basis_b21 a0 x1 x2 x3 t0 t1 μ = some w) (hK : (fun r : Int × Me => r = fin) w) : WL Z (QN Z (some (vI fin.1)) fin.2) μ 21 [(0, vO a0), (1, vI x1), (2, vI x2), (3, vI x3)] [vI t0, vO t1] := by
  unfold s_X11_basis_b21 at h
  refine r_iconst C dX11_basis_21 ?_
  obtain ⟨u5, eu5, h⟩ := bs h
  obtain ⟨q4, eq4, h⟩ := bs h
  refine r_callV C (As := [vI t0, vI 1]) (b := t1) (rest := []) (st1 := [vI q4.1]) (v := some (vI q4.1)) (r := (RX11, TX11, 38)) (ci := 9) rfl eu5 (m_X11_throwsIf C.tr eq4) (lw_V q1500 q1502 qs49 q133 q1503) rfl hdX11_throwsIf rfl rfl (Nat.le_of_ble_eq_true rfl) ⟨by decide, by decide⟩ dX11_basis_22 rfl ?_
  refine r_if_eq C dX11_basis_25 (tgt := 32) (by decide) (fun c6 => ?_) (fun c6 => ?_)
  · have h := it_ h c6
    refine r_aload_n C 0 dX11_basis_32 rfl rfl ?_
    refine r_iload_n C 1 dX11_basis_33 rfl rfl ?_
    refine r_iload_n C 2 dX11_basis_34 rfl rfl ?_
    refine r_iload_n C 3 dX11_basis_35 rfl rfl ?_
    obtain ⟨u8, eu8, h⟩ := bs h
    obtain ⟨q7, eq7, h⟩ := bs h
    refine r_callV C (As := [vI x1, vI x2, vI x3]) (b := a0) (rest := []) (st1 := [vI q7.1]) (v := some (vI q7.1)) (r := (RX11, TX11, 38)) (ci := 9) rfl eu8 (m_X11_basisOf C.tr eq7) (lw_V q1748 q1750 qs90 q133 q1751) rfl hdX11_basisOf rfl rfl (Nat.le_of_ble_eq_true rfl) ⟨by decide, by decide⟩ dX11_basis_36 rfl ?_
    cases h
    exact r_iret C hK dX11_basis_39
  · have h := ie_ h c6
    refine r_iconst C dX11_basis_28 ?_
    refine r_goto C dX11_basis_29 (tgt := 39) (by decide) ?_
    cases h
    exact r_iret C hK dX11_basis_39
noncomputable def s_X11_basis (a0 : Nat) (x1 : Int) (x2 : Int) (x3 : Int) (μ : Me) : Option (Int × Me) :=
  (pI μ 9 a0 0 0).bind fun m1 =>
  (s_X11_in x2 1 8 m1).bind fun q2 =>
  (if w32 q2.1 = 0 then
  s_X11_basis_b21 a0 x1 x2 x3 1 a0 q2.2
  else
  s_X11_basis_b21 a0 x1 x2 x3 0 a0 q2.2)
theorem w_X11_basis {Z : Zt} {fin : Int × Me} {w : Int × Me} (C : CX Z yX11_basis cX11_basis (some .int) 10 4) {a0 : Nat} {x1 : Int} {x2 : Int} {x3 : Int} {μ : Me} (h : s_X11_basis a0 x1 x2 x3 μ = some w) (hK : w = fin) : WL Z (QN Z (some (vI fin.1)) fin.2) μ 0 [(0, vO a0), (1, vI x1), (2, vI x2), (3, vI x3)] [] := by
  unfold s_X11_basis at h
  refine r_aload_n C 0 dX11_basis_0 rfl rfl ?_
  refine r_iconst C dX11_basis_1 ?_
  obtain ⟨m1, em1, h⟩ := bs h
  refine r_putI C (c := 9) (r := (RX11, TX11, 38)) rfl 0 (by decide) rfl ⟨rfl, rfl⟩ rfl em1 q1313 dX11_basis_2 ?_
  refine r_aload_n C 0 dX11_basis_5 rfl rfl ?_
  refine r_iload_n C 2 dX11_basis_6 rfl rfl ?_
  refine r_iconst C dX11_basis_7 ?_
  refine r_bipush C dX11_basis_8 (by decide) ?_
  obtain ⟨q2, eq2, h⟩ := bs h
  refine r_callS C (As := [vI x2, vI 1, vI 8]) (rest := [vO a0]) (st1 := [vI q2.1, vO a0]) (v := some (vI q2.1)) (m_X11_in C.tr eq2) (lw_S q1512 q1513 q133 q1514) hdX11_in rfl rfl (Nat.le_of_ble_eq_true rfl) ⟨by decide, by decide⟩ dX11_basis_10 rfl ?_
  refine r_if_ne C dX11_basis_13 (tgt := 20) (by decide) (fun c3 => ?_) (fun c3 => ?_)
  · have h := ie_ h c3
    refine r_iconst C dX11_basis_20 ?_
    exact w_X11_basis_b21 (fin := fin) C h hK
  · have h := it_ h c3
    refine r_iconst C dX11_basis_16 ?_
    refine r_goto C dX11_basis_17 (tgt := 21) (by decide) ?_
    exact w_X11_basis_b21 (fin := fin) C h hK
theorem hdX11_basis : zhd yX11_basis 3 := by decide +kernel
theorem m_X11_basis {l : Launch} {D : va_G} {b0 : Nat} (hl : l.stackTraces = false) {a0 : Nat} {x1 : Int} {x2 : Int} {x3 : Int} {μ : Me} {w : Int × Me} (h : s_X11_basis a0 x1 x2 x3 μ = some w) : MN l D b0 yX11_basis (ws_ yX11_basis cX11_basis 4 (some .int)) 10 [vO a0, vI x1, vI x2, vI x3] μ (some (vI w.1)) w.2 :=
  MN.of hl (by decide +kernel) (Nat.le_of_ble_eq_true rfl) (fun Z C _ _ => w_X11_basis C h rfl)
noncomputable def s_X11_noPoint (a0 : Nat) (x1 : Int) (μ : Me) : Option (Int × Me) :=
  (ck μ 9 a0).bind fun _ =>
  (s_X11_p a0  μ).bind fun q1 =>
  (s_X11_in x1 0 q1.1 q1.2).bind fun q3 =>
  (if w32 q3.1 = 0 then
  some (1, q3.2)
  else
  some (0, q3.2))
theorem w_X11_noPoint {Z : Zt} {fin : Int × Me} {w : Int × Me} (C : CX Z yX11_noPoint cX11_noPoint (some .boolean) 2 2) {a0 : Nat} {x1 : Int} {μ : Me} (h : s_X11_noPoint a0 x1 μ = some w) (hK : w = fin) : WL Z (QN Z (some (vI fin.1)) fin.2) μ 0 [(0, vO a0), (1, vI x1)] [] := by
  unfold s_X11_noPoint at h
  refine r_iload_n C 1 dX11_noPoint_0 rfl rfl ?_
  refine r_iconst C dX11_noPoint_1 ?_
  refine r_aload_n C 0 dX11_noPoint_2 rfl rfl ?_
  obtain ⟨u2, eu2, h⟩ := bs h
  obtain ⟨q1, eq1, h⟩ := bs h
  refine r_callV C (As := []) (b := a0) (rest := [vI 0, vI x1]) (st1 := [vI q1.1, vI 0, vI x1]) (v := some (vI q1.1)) (r := (RX11, TX11, 38)) (ci := 9) rfl eu2 (m_X11_p C.tr eq1) (lw_V q1522 q1524 qs51 q133 q1525) rfl hdX11_p rfl rfl (Nat.le_of_ble_eq_true rfl) ⟨by decide, by decide⟩ dX11_noPoint_3 rfl ?_
  obtain ⟨q3, eq3, h⟩ := bs h
  refine r_callS C (As := [vI x1, vI 0, vI q1.1]) (rest := []) (st1 := [vI q3.1]) (v := some (vI q3.1)) (m_X11_in C.tr eq3) (lw_S q1512 q1513 q133 q1514) hdX11_in rfl rfl (Nat.le_of_ble_eq_true rfl) ⟨by decide, by decide⟩ dX11_noPoint_6 rfl ?_
  refine r_if_ne C dX11_noPoint_9 (tgt := 16) (by decide) (fun c4 => ?_) (fun c4 => ?_)
  · have h := ie_ h c4
    refine r_iconst C dX11_noPoint_16 ?_
    cases h
    exact r_zret C (Or.inl rfl) hK dX11_noPoint_17
  · have h := it_ h c4
    refine r_iconst C dX11_noPoint_12 ?_
    refine r_goto C dX11_noPoint_13 (tgt := 17) (by decide) ?_
    cases h
    exact r_zret C (Or.inr rfl) hK dX11_noPoint_17
theorem hdX11_noPoint : zhd yX11_noPoint 1 := by decide +kernel
theorem m_X11_noPoint {l : Launch} {D : va_G} {b0 : Nat} (hl : l.stackTraces = false) {a0 : Nat} {x1 : Int} {μ : Me} {w : Int × Me} (h : s_X11_noPoint a0 x1 μ = some w) : MN l D b0 yX11_noPoint (ws_ yX11_noPoint cX11_noPoint 2 (some .boolean)) 2 [vO a0, vI x1] μ (some (vI w.1)) w.2 :=
  MN.of hl (by decide +kernel) (Nat.le_of_ble_eq_true rfl) (fun Z C _ _ => w_X11_noPoint C h rfl)
noncomputable def s_X11_isNought_l4_st (a0 : Nat) (x1 : Int) (x2 : Int) (x3 : Int) (μ : Me) : Option ((Int × Int × Me) ⊕ (Int × Me)) :=
  (gR μ 9 a0 4).bind fun v1 =>
  (aI μ 101 v1 x1).bind fun v2 =>
  (if w32 v2 < w32 x3 then
  (bz2 x2).bind fun _ =>
  some (.inr (x2, μ))
  else
  (if w32 x2 = 0 then
  some (.inl (0, (x3 + 1), μ))
  else
  (ck μ 9 a0).bind fun _ =>
  (s_X11_of a0 x1 x3 μ).bind fun q6 =>
  (if w32 q6.1 = 0 then
  some (.inl (1, (x3 + 1), q6.2))
  else
  some (.inl (0, (x3 + 1), q6.2)))))
theorem w_X11_isNought_l4_st {Z : Zt} {fin : Int × Me} {w : ((Int × Int × Me) ⊕ (Int × Me))} (C : CX Z yX11_isNought cX11_isNought (some .boolean) 2 4) {a0 : Nat} {x1 : Int} {x2 : Int} {x3 : Int} {μ : Me} (h : s_X11_isNought_l4_st a0 x1 x2 x3 μ = some w) (hK : (Sum.elim (fun s : Int × Int × Me => WL Z (QN Z (some (vI fin.1)) fin.2) s.2.2 4 [(0, vO a0), (1, vI x1), (2, vI s.1), (3, vI s.2.1)] []) (fun r : Int × Me => r = fin)) w) : WL Z (QN Z (some (vI fin.1)) fin.2) μ 4 [(0, vO a0), (1, vI x1), (2, vI x2), (3, vI x3)] [] := by
  unfold s_X11_isNought_l4_st at h
  refine r_iload_n C 3 dX11_isNought_4 rfl rfl ?_
  refine r_aload_n C 0 dX11_isNought_5 rfl rfl ?_
  obtain ⟨v1, ev1, h⟩ := bs h
  refine r_getR C (c := 9) (r := (RX11, TX11, 38)) rfl 4 (by decide) rfl ev1 q1317 dX11_isNought_6 ?_
  refine r_iload_n C 1 dX11_isNought_9 rfl rfl ?_
  obtain ⟨v2, ev2, h⟩ := bs h
  refine r_iald C ev2 dX11_isNought_10 ?_
  refine r_icmp_gt C dX11_isNought_11 (tgt := 39) (by decide) (fun c3 => ?_) (fun c3 => ?_)
  · have h := it_ h c3
    refine r_iload_n C 2 dX11_isNought_39 rfl rfl ?_
    obtain ⟨u4, eu4, h⟩ := bs h
    cases h
    exact r_zret C (bz2_ok eu4) hK dX11_isNought_40
  · have h := ie_ h c3
    refine r_iload_n C 2 dX11_isNought_14 rfl rfl ?_
    refine r_if_eq C dX11_isNought_15 (tgt := 31) (by decide) (fun c5 => ?_) (fun c5 => ?_)
    · have h := it_ h c5
      refine r_iconst C dX11_isNought_31 ?_
      refine r_istore_n C [(2, vI 0), (0, vO a0), (1, vI x1), (3, vI x3)] dX11_isNought_32 rfl (by decide) rfl ?_
      refine r_iinc C 3 [(3, vI (x3 + 1)), (2, vI 0), (0, vO a0), (1, vI x1)] dX11_isNought_33 rfl (by decide) rfl ?_
      refine r_goto C dX11_isNought_36 (tgt := 4) (by decide) ?_
      cases h
      refine r_sub [2, 3, 1, 0] rfl ?_
      exact hK
    · have h := ie_ h c5
      refine r_aload_n C 0 dX11_isNought_18 rfl rfl ?_
      refine r_iload_n C 1 dX11_isNought_19 rfl rfl ?_
      refine r_iload_n C 3 dX11_isNought_20 rfl rfl ?_
      obtain ⟨u7, eu7, h⟩ := bs h
      obtain ⟨q6, eq6, h⟩ := bs h
      refine r_callV C (As := [vI x1, vI x3]) (b := a0) (rest := []) (st1 := [vI q6.1]) (v := some (vI q6.1)) (r := (RX11, TX11, 38)) (ci := 9) rfl eu7 (m_X11_of C.tr eq6) (lw_V q1629 q1631 qs70 q133 q1632) rfl hdX11_of rfl rfl (Nat.le_of_ble_eq_true rfl) ⟨by decide, by decide⟩ dX11_isNought_21 rfl ?_
      refine r_if_ne C dX11_isNought_24 (tgt := 31) (by decide) (fun c8 => ?_) (fun c8 => ?_)
      · have h := ie_ h c8
        refine r_iconst C dX11_isNought_31 ?_
        refine r_istore_n C [(2, vI 0), (0, vO a0), (1, vI x1), (3, vI x3)] dX11_isNought_32 rfl (by decide) rfl ?_
        refine r_iinc C 3 [(3, vI (x3 + 1)), (2, vI 0), (0, vO a0), (1, vI x1)] dX11_isNought_33 rfl (by decide) rfl ?_
        refine r_goto C dX11_isNought_36 (tgt := 4) (by decide) ?_
        cases h
        refine r_sub [2, 3, 1, 0] rfl ?_
        exact hK
      · have h := it_ h c8
        refine r_iconst C dX11_isNought_27 ?_
        refine r_goto C dX11_isNought_28 (tgt := 32) (by decide) ?_
        refine r_istore_n C [(2, vI 1), (0, vO a0), (1, vI x1), (3, vI x3)] dX11_isNought_32 rfl (by decide) rfl ?_
        refine r_iinc C 3 [(3, vI (x3 + 1)), (2, vI 1), (0, vO a0), (1, vI x1)] dX11_isNought_33 rfl (by decide) rfl ?_
        refine r_goto C dX11_isNought_36 (tgt := 4) (by decide) ?_
        cases h
        refine r_sub [2, 3, 1, 0] rfl ?_
        exact hK
noncomputable def s_X11_isNought_l4 (a0 : Nat) (x1 : Int) (x2 : Int) (x3 : Int) (μ : Me) : Option (Int × Me) :=
  whileO (fun s : Int × Int × Me => s_X11_isNought_l4_st a0 x1 s.1 s.2.1 s.2.2) (x2, x3, μ)
theorem e_X11_isNought_l4 (a0 : Nat) (x1 : Int) (x2 : Int) (x3 : Int) (μ : Me) : s_X11_isNought_l4 a0 x1 x2 x3 μ = (s_X11_isNought_l4_st a0 x1 x2 x3 μ).bind fun x => x.elim (fun s : Int × Int × Me => s_X11_isNought_l4 a0 x1 s.1 s.2.1 s.2.2) some := whileO_eq _ _
theorem w_X11_isNought_l4 {Z : Zt} {fin : Int × Me} {w : (Int × Me)} (C : CX Z yX11_isNought cX11_isNought (some .boolean) 2 4) {a0 : Nat} {x1 : Int} {x2 : Int} {x3 : Int} {μ : Me} (h : s_X11_isNought_l4 a0 x1 x2 x3 μ = some w) (hK : (fun r : Int × Me => r = fin) w) : WL Z (QN Z (some (vI fin.1)) fin.2) μ 4 [(0, vO a0), (1, vI x1), (2, vI x2), (3, vI x3)] [] := by
  refine whileO_walk (w := w) (fun s : Int × Int × Me => WL Z (QN Z (some (vI fin.1)) fin.2) s.2.2 4 [(0, vO a0), (1, vI x1), (2, vI s.1), (3, vI s.2.1)] []) (fun s v h2 hi hr => ?_) (x2, x3, μ) h
  refine w_X11_isNought_l4_st (fin := fin) C h2 ?_
  cases v with
  | inl s2 => exact hi s2 rfl
  | inr r => have e := hr r rfl; subst e; exact hK
noncomputable def s_X11_isNought (a0 : Nat) (x1 : Int) (μ : Me) : Option (Int × Me) :=
  s_X11_isNought_l4 a0 x1 1 0 μ
theorem w_X11_isNought {Z : Zt} {fin : Int × Me} {w : Int × Me} (C : CX Z yX11_isNought cX11_isNought (some .boolean) 2 4) {a0 : Nat} {x1 : Int} {μ : Me} (h : s_X11_isNought a0 x1 μ = some w) (hK : w = fin) : WL Z (QN Z (some (vI fin.1)) fin.2) μ 0 [(0, vO a0), (1, vI x1)] [] := by
  unfold s_X11_isNought at h
  refine r_iconst C dX11_isNought_0 ?_
  refine r_istore_n C [(2, vI 1), (0, vO a0), (1, vI x1)] dX11_isNought_1 rfl (by decide) rfl ?_
  refine r_iconst C dX11_isNought_2 ?_
  refine r_istore_n C [(3, vI 0), (2, vI 1), (0, vO a0), (1, vI x1)] dX11_isNought_3 rfl (by decide) rfl ?_
  refine r_sub [2, 3, 1, 0] rfl ?_
  exact w_X11_isNought_l4 (fin := fin) C h hK
theorem hdX11_isNought : zhd yX11_isNought 1 := by decide +kernel
theorem m_X11_isNought {l : Launch} {D : va_G} {b0 : Nat} (hl : l.stackTraces = false) {a0 : Nat} {x1 : Int} {μ : Me} {w : Int × Me} (h : s_X11_isNought a0 x1 μ = some w) : MN l D b0 yX11_isNought (ws_ yX11_isNought cX11_isNought 4 (some .boolean)) 2 [vO a0, vI x1] μ (some (vI w.1)) w.2 :=
  MN.of hl (by decide +kernel) (Nat.le_of_ble_eq_true rfl) (fun Z C _ _ => w_X11_isNought C h rfl)
noncomputable def s_X11_oftenRoot_b111 (a0 : Nat) (x2 : Int) (x3 : Int)  (μ : Me) : Option ((Int × Me) ⊕ (Int × Me)) :=
  (gR μ 9 a0 4).bind fun v15 =>
  (aI μ 101 v15 43).bind fun v16 =>
  (uI μ v15 43 (v16 - 1)).bind fun m17 =>
  some (.inl ((x3 + 1), m17))
theorem w_X11_oftenRoot_b111 {Z : Zt} {fin : Int × Me} {w : ((Int × Me) ⊕ (Int × Me))} (C : CX Z yX11_oftenRoot cX11_oftenRoot (some .int) 5 5) {a0 : Nat} {x2 : Int} {x3 : Int}  {μ : Me} (h : s_X11_oftenRoot_b111 a0 x2 x3 μ = some w) (hK : (Sum.elim (fun s : Int × Me => WL Z (QN Z (some (vI fin.1)) fin.2) s.2 34 [(0, vO a0), (2, vI x2), (3, vI s.1)] []) (fun r : Int × Me => r = fin)) w) : WL Z (QN Z (some (vI fin.1)) fin.2) μ 111 [(0, vO a0), (2, vI x2), (3, vI x3)] [] := by
  unfold s_X11_oftenRoot_b111 at h
  refine r_aload_n C 0 dX11_oftenRoot_111 rfl rfl ?_
  obtain ⟨v15, ev15, h⟩ := bs h
  refine r_getR C (c := 9) (r := (RX11, TX11, 38)) rfl 4 (by decide) rfl ev15 q1317 dX11_oftenRoot_112 ?_
  refine r_bipush C dX11_oftenRoot_115 (by decide) ?_
  refine r_dup2 C dX11_oftenRoot_117 rfl rfl ?_
  obtain ⟨v16, ev16, h⟩ := bs h
  refine r_iald C ev16 dX11_oftenRoot_118 ?_
  refine r_iconst C dX11_oftenRoot_119 ?_
  refine r_isub C dX11_oftenRoot_120 ?_
  obtain ⟨m17, em17, h⟩ := bs h
  refine r_iast C em17 dX11_oftenRoot_121 ?_
  refine r_iinc C 2 [(3, vI (x3 + 1)), (0, vO a0), (2, vI x2)] dX11_oftenRoot_122 rfl (by decide) rfl ?_
  refine r_goto C dX11_oftenRoot_125 (tgt := 34) (by decide) ?_
  cases h
  refine r_sub [1, 2, 0] rfl ?_
  exact hK
noncomputable def s_X11_oftenRoot_l58_st (a0 : Nat) (x2 : Int) (x3 : Int) (x4 : Int) (μ : Me) : Option ((Int × Me) ⊕ ((Int × Me) ⊕ (Int × Me))) :=
  (gR μ 9 a0 4).bind fun v12 =>
  (aI μ 101 v12 43).bind fun v13 =>
  (if w32 v13 < w32 x4 then
  (s_X11_oftenRoot_b111 a0 x2 x3 μ).map Sum.inr
  else
  (ck μ 9 a0).bind fun _ =>
  (s_X11_of a0 43 x4 μ).bind fun q18 =>
  (ck q18.2 9 a0).bind fun _ =>
  (s_X11_of a0 43 (x4 - 1) q18.2).bind fun q20 =>
  (ck q20.2 9 a0).bind fun _ =>
  (s_X11_times a0 x2 q20.1 q20.2).bind fun q22 =>
  (ck q22.2 9 a0).bind fun _ =>
  (s_X11_plus a0 q18.1 q22.1 q22.2).bind fun q24 =>
  (ck q24.2 9 a0).bind fun _ =>
  (s_X11_put a0 43 x4 q24.1 q24.2).bind fun q26 =>
  some (.inl ((x4 + 1), q26)))
theorem w_X11_oftenRoot_l58_st {Z : Zt} {fin : Int × Me} {w : ((Int × Me) ⊕ ((Int × Me) ⊕ (Int × Me)))} (C : CX Z yX11_oftenRoot cX11_oftenRoot (some .int) 5 5) {a0 : Nat} {x2 : Int} {x3 : Int} {x4 : Int} {μ : Me} (h : s_X11_oftenRoot_l58_st a0 x2 x3 x4 μ = some w) (hK : (Sum.elim (fun s : Int × Me => WL Z (QN Z (some (vI fin.1)) fin.2) s.2 58 [(0, vO a0), (2, vI x2), (3, vI x3), (4, vI s.1)] []) (Sum.elim (fun s : Int × Me => WL Z (QN Z (some (vI fin.1)) fin.2) s.2 34 [(0, vO a0), (2, vI x2), (3, vI s.1)] []) (fun r : Int × Me => r = fin))) w) : WL Z (QN Z (some (vI fin.1)) fin.2) μ 58 [(0, vO a0), (2, vI x2), (3, vI x3), (4, vI x4)] [] := by
  unfold s_X11_oftenRoot_l58_st at h
  refine r_iload C 3 dX11_oftenRoot_58 rfl ?_
  refine r_aload_n C 0 dX11_oftenRoot_60 rfl rfl ?_
  obtain ⟨v12, ev12, h⟩ := bs h
  refine r_getR C (c := 9) (r := (RX11, TX11, 38)) rfl 4 (by decide) rfl ev12 q1317 dX11_oftenRoot_61 ?_
  refine r_bipush C dX11_oftenRoot_64 (by decide) ?_
  obtain ⟨v13, ev13, h⟩ := bs h
  refine r_iald C ev13 dX11_oftenRoot_66 ?_
  refine r_icmp_gt C dX11_oftenRoot_67 (tgt := 111) (by decide) (fun c14 => ?_) (fun c14 => ?_)
  · have h := it_ h c14
    obtain ⟨z, hz, ez⟩ := ms_ h; clear h; subst ez; have h := hz; clear hz
    refine r_sub [0, 1, 2] rfl ?_
    exact w_X11_oftenRoot_b111 (fin := fin) C h hK
  · have h := ie_ h c14
    refine r_aload_n C 0 dX11_oftenRoot_70 rfl rfl ?_
    refine r_bipush C dX11_oftenRoot_71 (by decide) ?_
    refine r_iload C 3 dX11_oftenRoot_73 rfl ?_
    refine r_aload_n C 0 dX11_oftenRoot_75 rfl rfl ?_
    refine r_aload_n C 0 dX11_oftenRoot_76 rfl rfl ?_
    refine r_bipush C dX11_oftenRoot_77 (by decide) ?_
    refine r_iload C 3 dX11_oftenRoot_79 rfl ?_
    obtain ⟨u19, eu19, h⟩ := bs h
    obtain ⟨q18, eq18, h⟩ := bs h
    refine r_callV C (As := [vI 43, vI x4]) (b := a0) (rest := [vO a0, vI x4, vI 43, vO a0]) (st1 := [vI q18.1, vO a0, vI x4, vI 43, vO a0]) (v := some (vI q18.1)) (r := (RX11, TX11, 38)) (ci := 9) rfl eu19 (m_X11_of C.tr eq18) (lw_V q1629 q1631 qs70 q133 q1632) rfl hdX11_of rfl rfl (Nat.le_of_ble_eq_true rfl) ⟨by decide, by decide⟩ dX11_oftenRoot_81 rfl ?_
    refine r_aload_n C 0 dX11_oftenRoot_84 rfl rfl ?_
    refine r_iload_n C 1 dX11_oftenRoot_85 rfl rfl ?_
    refine r_aload_n C 0 dX11_oftenRoot_86 rfl rfl ?_
    refine r_bipush C dX11_oftenRoot_87 (by decide) ?_
    refine r_iload C 3 dX11_oftenRoot_89 rfl ?_
    refine r_iconst C dX11_oftenRoot_91 ?_
    refine r_isub C dX11_oftenRoot_92 ?_
    obtain ⟨u21, eu21, h⟩ := bs h
    obtain ⟨q20, eq20, h⟩ := bs h
    refine r_callV C (As := [vI 43, vI (x4 - 1)]) (b := a0) (rest := [vI x2, vO a0, vI q18.1, vO a0, vI x4, vI 43, vO a0]) (st1 := [vI q20.1, vI x2, vO a0, vI q18.1, vO a0, vI x4, vI 43, vO a0]) (v := some (vI q20.1)) (r := (RX11, TX11, 38)) (ci := 9) rfl eu21 (m_X11_of C.tr eq20) (lw_V q1629 q1631 qs70 q133 q1632) rfl hdX11_of rfl rfl (Nat.le_of_ble_eq_true rfl) ⟨by decide, by decide⟩ dX11_oftenRoot_93 rfl ?_
    obtain ⟨u23, eu23, h⟩ := bs h
    obtain ⟨q22, eq22, h⟩ := bs h
    refine r_callV C (As := [vI x2, vI q20.1]) (b := a0) (rest := [vI q18.1, vO a0, vI x4, vI 43, vO a0]) (st1 := [vI q22.1, vI q18.1, vO a0, vI x4, vI 43, vO a0]) (v := some (vI q22.1)) (r := (RX11, TX11, 38)) (ci := 9) rfl eu23 (m_X11_times C.tr eq22) (lw_V q1541 q1543 qs54 q133 q1544) rfl hdX11_times rfl rfl (Nat.le_of_ble_eq_true rfl) ⟨by decide, by decide⟩ dX11_oftenRoot_96 rfl ?_
    obtain ⟨u25, eu25, h⟩ := bs h
    obtain ⟨q24, eq24, h⟩ := bs h
    refine r_callV C (As := [vI q18.1, vI q22.1]) (b := a0) (rest := [vI x4, vI 43, vO a0]) (st1 := [vI q24.1, vI x4, vI 43, vO a0]) (v := some (vI q24.1)) (r := (RX11, TX11, 38)) (ci := 9) rfl eu25 (m_X11_plus C.tr eq24) (lw_V q1569 q1571 qs60 q133 q1572) rfl hdX11_plus rfl rfl (Nat.le_of_ble_eq_true rfl) ⟨by decide, by decide⟩ dX11_oftenRoot_99 rfl ?_
    obtain ⟨u27, eu27, h⟩ := bs h
    obtain ⟨q26, eq26, h⟩ := bs h
    refine r_callV C (As := [vI 43, vI x4, vI q24.1]) (b := a0) (rest := []) (st1 := []) (v := none) (r := (RX11, TX11, 38)) (ci := 9) rfl eu27 (m_X11_put C.tr eq26) (lw_V q1621 q1623 qs68 q133 q1624) rfl hdX11_put rfl rfl (Nat.le_of_ble_eq_true rfl) ⟨by decide, by decide⟩ dX11_oftenRoot_102 rfl ?_
    refine r_iinc C 3 [(4, vI (x4 + 1)), (0, vO a0), (2, vI x2), (3, vI x3)] dX11_oftenRoot_105 rfl (by decide) rfl ?_
    refine r_goto C dX11_oftenRoot_108 (tgt := 58) (by decide) ?_
    cases h
    refine r_sub [1, 2, 3, 0] rfl ?_
    exact hK
noncomputable def s_X11_oftenRoot_l58 (a0 : Nat) (x2 : Int) (x3 : Int) (x4 : Int) (μ : Me) : Option ((Int × Me) ⊕ (Int × Me)) :=
  whileO (fun s : Int × Me => s_X11_oftenRoot_l58_st a0 x2 x3 s.1 s.2) (x4, μ)
theorem e_X11_oftenRoot_l58 (a0 : Nat) (x2 : Int) (x3 : Int) (x4 : Int) (μ : Me) : s_X11_oftenRoot_l58 a0 x2 x3 x4 μ = (s_X11_oftenRoot_l58_st a0 x2 x3 x4 μ).bind fun x => x.elim (fun s : Int × Me => s_X11_oftenRoot_l58 a0 x2 x3 s.1 s.2) some := whileO_eq _ _
theorem w_X11_oftenRoot_l58 {Z : Zt} {fin : Int × Me} {w : ((Int × Me) ⊕ (Int × Me))} (C : CX Z yX11_oftenRoot cX11_oftenRoot (some .int) 5 5) {a0 : Nat} {x2 : Int} {x3 : Int} {x4 : Int} {μ : Me} (h : s_X11_oftenRoot_l58 a0 x2 x3 x4 μ = some w) (hK : (Sum.elim (fun s : Int × Me => WL Z (QN Z (some (vI fin.1)) fin.2) s.2 34 [(0, vO a0), (2, vI x2), (3, vI s.1)] []) (fun r : Int × Me => r = fin)) w) : WL Z (QN Z (some (vI fin.1)) fin.2) μ 58 [(0, vO a0), (2, vI x2), (3, vI x3), (4, vI x4)] [] := by
  refine whileO_walk (w := w) (fun s : Int × Me => WL Z (QN Z (some (vI fin.1)) fin.2) s.2 58 [(0, vO a0), (2, vI x2), (3, vI x3), (4, vI s.1)] []) (fun s v h2 hi hr => ?_) (x4, μ) h
  refine w_X11_oftenRoot_l58_st (fin := fin) C h2 ?_
  cases v with
  | inl s2 => exact hi s2 rfl
  | inr r => have e := hr r rfl; subst e; exact hK
noncomputable def s_X11_oftenRoot_l34_st (a0 : Nat) (x2 : Int) (x3 : Int) (μ : Me) : Option ((Int × Me) ⊕ (Int × Me)) :=
  (gR μ 9 a0 4).bind fun v6 =>
  (aI μ 101 v6 43).bind fun v7 =>
  (if w32 v7 ≤ 0 then
  some (.inr (x3, μ))
  else
  (ck μ 9 a0).bind fun _ =>
  (s_X11_valueAt a0 43 x2 1 μ).bind fun q9 =>
  (if w32 q9.1 = 0 then
  s_X11_oftenRoot_l58 a0 x2 x3 1 q9.2
  else
  some (.inr (x3, q9.2))))
theorem w_X11_oftenRoot_l34_st {Z : Zt} {fin : Int × Me} {w : ((Int × Me) ⊕ (Int × Me))} (C : CX Z yX11_oftenRoot cX11_oftenRoot (some .int) 5 5) {a0 : Nat} {x2 : Int} {x3 : Int} {μ : Me} (h : s_X11_oftenRoot_l34_st a0 x2 x3 μ = some w) (hK : (Sum.elim (fun s : Int × Me => WL Z (QN Z (some (vI fin.1)) fin.2) s.2 34 [(0, vO a0), (2, vI x2), (3, vI s.1)] []) (fun r : Int × Me => r = fin)) w) : WL Z (QN Z (some (vI fin.1)) fin.2) μ 34 [(0, vO a0), (2, vI x2), (3, vI x3)] [] := by
  unfold s_X11_oftenRoot_l34_st at h
  refine r_aload_n C 0 dX11_oftenRoot_34 rfl rfl ?_
  obtain ⟨v6, ev6, h⟩ := bs h
  refine r_getR C (c := 9) (r := (RX11, TX11, 38)) rfl 4 (by decide) rfl ev6 q1317 dX11_oftenRoot_35 ?_
  refine r_bipush C dX11_oftenRoot_38 (by decide) ?_
  obtain ⟨v7, ev7, h⟩ := bs h
  refine r_iald C ev7 dX11_oftenRoot_40 ?_
  refine r_if_le C dX11_oftenRoot_41 (tgt := 128) (by decide) (fun c8 => ?_) (fun c8 => ?_)
  · have h := it_ h c8
    refine r_iload_n C 2 dX11_oftenRoot_128 rfl rfl ?_
    cases h
    exact r_iret C hK dX11_oftenRoot_129
  · have h := ie_ h c8
    refine r_aload_n C 0 dX11_oftenRoot_44 rfl rfl ?_
    refine r_bipush C dX11_oftenRoot_45 (by decide) ?_
    refine r_iload_n C 1 dX11_oftenRoot_47 rfl rfl ?_
    refine r_iconst C dX11_oftenRoot_48 ?_
    obtain ⟨u10, eu10, h⟩ := bs h
    obtain ⟨q9, eq9, h⟩ := bs h
    refine r_callV C (As := [vI 43, vI x2, vI 1]) (b := a0) (rest := []) (st1 := [vI q9.1]) (v := some (vI q9.1)) (r := (RX11, TX11, 38)) (ci := 9) rfl eu10 (m_X11_valueAt C.tr eq9) (lw_V q1625 q1627 qs69 q133 q1628) rfl hdX11_valueAt rfl rfl (Nat.le_of_ble_eq_true rfl) ⟨by decide, by decide⟩ dX11_oftenRoot_49 rfl ?_
    refine r_if_ne C dX11_oftenRoot_52 (tgt := 128) (by decide) (fun c11 => ?_) (fun c11 => ?_)
    · have h := ie_ h c11
      refine r_iload_n C 2 dX11_oftenRoot_128 rfl rfl ?_
      cases h
      exact r_iret C hK dX11_oftenRoot_129
    · have h := it_ h c11
      refine r_iconst C dX11_oftenRoot_55 ?_
      refine r_istore C [(4, vI 1), (0, vO a0), (2, vI x2), (3, vI x3)] dX11_oftenRoot_56 (by decide) rfl ?_
      refine r_sub [1, 2, 3, 0] rfl ?_
      exact w_X11_oftenRoot_l58 (fin := fin) C h hK
noncomputable def s_X11_oftenRoot_l34 (a0 : Nat) (x2 : Int) (x3 : Int) (μ : Me) : Option (Int × Me) :=
  whileO (fun s : Int × Me => s_X11_oftenRoot_l34_st a0 x2 s.1 s.2) (x3, μ)
theorem e_X11_oftenRoot_l34 (a0 : Nat) (x2 : Int) (x3 : Int) (μ : Me) : s_X11_oftenRoot_l34 a0 x2 x3 μ = (s_X11_oftenRoot_l34_st a0 x2 x3 μ).bind fun x => x.elim (fun s : Int × Me => s_X11_oftenRoot_l34 a0 x2 s.1 s.2) some := whileO_eq _ _
theorem w_X11_oftenRoot_l34 {Z : Zt} {fin : Int × Me} {w : (Int × Me)} (C : CX Z yX11_oftenRoot cX11_oftenRoot (some .int) 5 5) {a0 : Nat} {x2 : Int} {x3 : Int} {μ : Me} (h : s_X11_oftenRoot_l34 a0 x2 x3 μ = some w) (hK : (fun r : Int × Me => r = fin) w) : WL Z (QN Z (some (vI fin.1)) fin.2) μ 34 [(0, vO a0), (2, vI x2), (3, vI x3)] [] := by
  refine whileO_walk (w := w) (fun s : Int × Me => WL Z (QN Z (some (vI fin.1)) fin.2) s.2 34 [(0, vO a0), (2, vI x2), (3, vI s.1)] []) (fun s v h2 hi hr => ?_) (x3, μ) h
  refine w_X11_oftenRoot_l34_st (fin := fin) C h2 ?_
  cases v with
  | inl s2 => exact hi s2 rfl
  | inr r => have e := hr r rfl; subst e; exact hK
noncomputable def s_X11_oftenRoot_l10_st (a0 : Nat) (x1 : Int) (x3 : Int) (μ : Me) : Option ((Int × Me) ⊕ (Int × Me)) :=
  (ck μ 9 a0).bind fun _ =>
  (s_X11_of a0 x1 x3 μ).bind fun q28 =>
  (if w32 q28.1 = 0 then
  some (.inl ((x3 + 1), q28.2))
  else
  some (.inr (x3, q28.2)))
theorem w_X11_oftenRoot_l10_st {Z : Zt} {fin : Int × Me} {w : ((Int × Me) ⊕ (Int × Me))} (C : CX Z yX11_oftenRoot cX11_oftenRoot (some .int) 5 5) {a0 : Nat} {x1 : Int} {x3 : Int} {μ : Me} (h : s_X11_oftenRoot_l10_st a0 x1 x3 μ = some w) (hK : (Sum.elim (fun s : Int × Me => WL Z (QN Z (some (vI fin.1)) fin.2) s.2 10 [(0, vO a0), (1, vI x1), (3, vI s.1)] []) (fun r : Int × Me => r = fin)) w) : WL Z (QN Z (some (vI fin.1)) fin.2) μ 10 [(0, vO a0), (1, vI x1), (3, vI x3)] [] := by
  unfold s_X11_oftenRoot_l10_st at h
  refine r_aload_n C 0 dX11_oftenRoot_10 rfl rfl ?_
  refine r_iload_n C 1 dX11_oftenRoot_11 rfl rfl ?_
  refine r_iload_n C 2 dX11_oftenRoot_12 rfl rfl ?_
  obtain ⟨u29, eu29, h⟩ := bs h
  obtain ⟨q28, eq28, h⟩ := bs h
  refine r_callV C (As := [vI x1, vI x3]) (b := a0) (rest := []) (st1 := [vI q28.1]) (v := some (vI q28.1)) (r := (RX11, TX11, 38)) (ci := 9) rfl eu29 (m_X11_of C.tr eq28) (lw_V q1629 q1631 qs70 q133 q1632) rfl hdX11_of rfl rfl (Nat.le_of_ble_eq_true rfl) ⟨by decide, by decide⟩ dX11_oftenRoot_13 rfl ?_
  refine r_if_ne C dX11_oftenRoot_16 (tgt := 25) (by decide) (fun c30 => ?_) (fun c30 => ?_)
  · have h := ie_ h c30
    refine r_iload_n C 2 dX11_oftenRoot_25 rfl rfl ?_
    cases h
    exact r_iret C hK dX11_oftenRoot_26
  · have h := it_ h c30
    refine r_iinc C 2 [(3, vI (x3 + 1)), (0, vO a0), (1, vI x1)] dX11_oftenRoot_19 rfl (by decide) rfl ?_
    refine r_goto C dX11_oftenRoot_22 (tgt := 10) (by decide) ?_
    cases h
    refine r_sub [1, 2, 0] rfl ?_
    exact hK
noncomputable def s_X11_oftenRoot_l10 (a0 : Nat) (x1 : Int) (x3 : Int) (μ : Me) : Option (Int × Me) :=
  whileO (fun s : Int × Me => s_X11_oftenRoot_l10_st a0 x1 s.1 s.2) (x3, μ)
theorem e_X11_oftenRoot_l10 (a0 : Nat) (x1 : Int) (x3 : Int) (μ : Me) : s_X11_oftenRoot_l10 a0 x1 x3 μ = (s_X11_oftenRoot_l10_st a0 x1 x3 μ).bind fun x => x.elim (fun s : Int × Me => s_X11_oftenRoot_l10 a0 x1 s.1 s.2) some := whileO_eq _ _
theorem w_X11_oftenRoot_l10 {Z : Zt} {fin : Int × Me} {w : (Int × Me)} (C : CX Z yX11_oftenRoot cX11_oftenRoot (some .int) 5 5) {a0 : Nat} {x1 : Int} {x3 : Int} {μ : Me} (h : s_X11_oftenRoot_l10 a0 x1 x3 μ = some w) (hK : (fun r : Int × Me => r = fin) w) : WL Z (QN Z (some (vI fin.1)) fin.2) μ 10 [(0, vO a0), (1, vI x1), (3, vI x3)] [] := by
  refine whileO_walk (w := w) (fun s : Int × Me => WL Z (QN Z (some (vI fin.1)) fin.2) s.2 10 [(0, vO a0), (1, vI x1), (3, vI s.1)] []) (fun s v h2 hi hr => ?_) (x3, μ) h
  refine w_X11_oftenRoot_l10_st (fin := fin) C h2 ?_
  cases v with
  | inl s2 => exact hi s2 rfl
  | inr r => have e := hr r rfl; subst e; exact hK
noncomputable def s_X11_oftenRoot (a0 : Nat) (x1 : Int) (x2 : Int) (μ : Me) : Option (Int × Me) :=
  (ck μ 9 a0).bind fun _ =>
  (s_X11_p a0  μ).bind fun q1 =>
  (if w32 x2 = w32 q1.1 then
  s_X11_oftenRoot_l10 a0 x1 0 q1.2
  else
  (ck q1.2 9 a0).bind fun _ =>
  (s_X11_copies a0 x1 43 q1.2).bind fun q4 =>
  s_X11_oftenRoot_l34 a0 x2 0 q4)
theorem w_X11_oftenRoot {Z : Zt} {fin : Int × Me} {w : Int × Me} (C : CX Z yX11_oftenRoot cX11_oftenRoot (some .int) 5 5) {a0 : Nat} {x1 : Int} {x2 : Int} {μ : Me} (h : s_X11_oftenRoot a0 x1 x2 μ = some w) (hK : w = fin) : WL Z (QN Z (some (vI fin.1)) fin.2) μ 0 [(0, vO a0), (1, vI x1), (2, vI x2)] [] := by
  unfold s_X11_oftenRoot at h
  refine r_iconst C dX11_oftenRoot_0 ?_
  refine r_istore_n C [(3, vI 0), (0, vO a0), (1, vI x1), (2, vI x2)] dX11_oftenRoot_1 rfl (by decide) rfl ?_
  refine r_iload_n C 3 dX11_oftenRoot_2 rfl rfl ?_
  refine r_aload_n C 1 dX11_oftenRoot_3 rfl rfl ?_
  obtain ⟨u2, eu2, h⟩ := bs h
  obtain ⟨q1, eq1, h⟩ := bs h
  refine r_callV C (As := []) (b := a0) (rest := [vI x2]) (st1 := [vI q1.1, vI x2]) (v := some (vI q1.1)) (r := (RX11, TX11, 38)) (ci := 9) rfl eu2 (m_X11_p C.tr eq1) (lw_V q1522 q1524 qs51 q133 q1525) rfl hdX11_p rfl rfl (Nat.le_of_ble_eq_true rfl) ⟨by decide, by decide⟩ dX11_oftenRoot_4 rfl ?_
  refine r_icmp_ne C dX11_oftenRoot_7 (tgt := 27) (by decide) (fun c3 => ?_) (fun c3 => ?_)
  · have h := ie_ h c3
    refine r_aload_n C 1 dX11_oftenRoot_27 rfl rfl ?_
    refine r_iload_n C 2 dX11_oftenRoot_28 rfl rfl ?_
    refine r_bipush C dX11_oftenRoot_29 (by decide) ?_
    obtain ⟨u5, eu5, h⟩ := bs h
    obtain ⟨q4, eq4, h⟩ := bs h
    refine r_callV C (As := [vI x1, vI 43]) (b := a0) (rest := []) (st1 := []) (v := none) (r := (RX11, TX11, 38)) (ci := 9) rfl eu5 (m_X11_copies C.tr eq4) (lw_V q1689 q1691 qs81 q133 q1692) rfl hdX11_copies rfl rfl (Nat.le_of_ble_eq_true rfl) ⟨by decide, by decide⟩ dX11_oftenRoot_31 rfl ?_
    refine r_sub [1, 3, 0] rfl ?_
    exact w_X11_oftenRoot_l34 (fin := fin) C h hK
  · have h := it_ h c3
    refine r_sub [1, 2, 0] rfl ?_
    exact w_X11_oftenRoot_l10 (fin := fin) C h hK
theorem hdX11_oftenRoot : zhd yX11_oftenRoot 2 := by decide +kernel
theorem m_X11_oftenRoot {l : Launch} {D : va_G} {b0 : Nat} (hl : l.stackTraces = false) {a0 : Nat} {x1 : Int} {x2 : Int} {μ : Me} {w : Int × Me} (h : s_X11_oftenRoot a0 x1 x2 μ = some w) : MN l D b0 yX11_oftenRoot (ws_ yX11_oftenRoot cX11_oftenRoot 5 (some .int)) 5 [vO a0, vI x1, vI x2] μ (some (vI w.1)) w.2 :=
  MN.of hl (by decide +kernel) (Nat.le_of_ble_eq_true rfl) (fun Z C _ _ => w_X11_oftenRoot C h rfl)
noncomputable def s_X11_root (a0 : Nat) (x1 : Int) (x2 : Int) (μ : Me) : Option (Int × Me) :=
  (pI μ 9 a0 0 0).bind fun m1 =>
  (ck m1 9 a0).bind fun _ =>
  (s_X11_noForm a0 x1 m1).bind fun q2 =>
  (ck q2.2 9 a0).bind fun _ =>
  (s_X11_throwsIf a0 q2.1 1 q2.2).bind fun q4 =>
  (if w32 q4.1 = 0 then
  (ck q4.2 9 a0).bind fun _ =>
  (s_X11_noPoint a0 x2 q4.2).bind fun q7 =>
  (ck q7.2 9 a0).bind fun _ =>
  (s_X11_throwsIf a0 q7.1 2 q7.2).bind fun q9 =>
  (if w32 q9.1 = 0 then
  (ck q9.2 9 a0).bind fun _ =>
  (s_X11_takes a0 40 x1 q9.2).bind fun q12 =>
  (ck q12 9 a0).bind fun _ =>
  (s_X11_isNought a0 40 q12).bind fun q14 =>
  (if w32 q14.1 = 0 then
  (ck q14.2 9 a0).bind fun _ =>
  (s_X11_oftenRoot a0 40 x2 q14.2).bind fun q17 =>
  some (q17.1, q17.2)
  else
  some (99, q14.2))
  else
  some (0, q9.2))
  else
  some (0, q4.2))
theorem w_X11_root {Z : Zt} {fin : Int × Me} {w : Int × Me} (C : CX Z yX11_root cX11_root (some .int) 6 3) {a0 : Nat} {x1 : Int} {x2 : Int} {μ : Me} (h : s_X11_root a0 x1 x2 μ = some w) (hK : w = fin) : WL Z (QN Z (some (vI fin.1)) fin.2) μ 0 [(0, vO a0), (1, vI x1), (2, vI x2)] [] := by
  unfold s_X11_root at h
  refine r_aload_n C 0 dX11_root_0 rfl rfl ?_
  refine r_iconst C dX11_root_1 ?_
  obtain ⟨m1, em1, h⟩ := bs h
  refine r_putI C (c := 9) (r := (RX11, TX11, 38)) rfl 0 (by decide) rfl ⟨rfl, rfl⟩ rfl em1 q1313 dX11_root_2 ?_
  refine r_aload_n C 0 dX11_root_5 rfl rfl ?_
  refine r_aload_n C 0 dX11_root_6 rfl rfl ?_
  refine r_iload_n C 1 dX11_root_7 rfl rfl ?_
  obtain ⟨u3, eu3, h⟩ := bs h
  obtain ⟨q2, eq2, h⟩ := bs h
  refine r_callV C (As := [vI x1]) (b := a0) (rest := [vO a0]) (st1 := [vI q2.1, vO a0]) (v := some (vI q2.1)) (r := (RX11, TX11, 38)) (ci := 9) rfl eu3 (m_X11_noForm C.tr eq2) (lw_V q1601 q1603 qs64 q133 q1604) rfl hdX11_noForm rfl rfl (Nat.le_of_ble_eq_true rfl) ⟨by decide, by decide⟩ dX11_root_8 rfl ?_
  refine r_iconst C dX11_root_11 ?_
  obtain ⟨u5, eu5, h⟩ := bs h
  obtain ⟨q4, eq4, h⟩ := bs h
  refine r_callV C (As := [vI q2.1, vI 1]) (b := a0) (rest := []) (st1 := [vI q4.1]) (v := some (vI q4.1)) (r := (RX11, TX11, 38)) (ci := 9) rfl eu5 (m_X11_throwsIf C.tr eq4) (lw_V q1500 q1502 qs49 q133 q1503) rfl hdX11_throwsIf rfl rfl (Nat.le_of_ble_eq_true rfl) ⟨by decide, by decide⟩ dX11_root_12 rfl ?_
  refine r_if_ne C dX11_root_15 (tgt := 31) (by decide) (fun c6 => ?_) (fun c6 => ?_)
  · have h := ie_ h c6
    refine r_iconst C dX11_root_31 ?_
    cases h
    exact r_iret C hK dX11_root_32
  · have h := it_ h c6
    refine r_aload_n C 0 dX11_root_18 rfl rfl ?_
    refine r_aload_n C 0 dX11_root_19 rfl rfl ?_
    refine r_iload_n C 2 dX11_root_20 rfl rfl ?_
    obtain ⟨u8, eu8, h⟩ := bs h
    obtain ⟨q7, eq7, h⟩ := bs h
    refine r_callV C (As := [vI x2]) (b := a0) (rest := [vO a0]) (st1 := [vI q7.1, vO a0]) (v := some (vI q7.1)) (r := (RX11, TX11, 38)) (ci := 9) rfl eu8 (m_X11_noPoint C.tr eq7) (lw_V q1783 q1785 qs95 q133 q1786) rfl hdX11_noPoint rfl rfl (Nat.le_of_ble_eq_true rfl) ⟨by decide, by decide⟩ dX11_root_21 rfl ?_
    refine r_iconst C dX11_root_24 ?_
    obtain ⟨u10, eu10, h⟩ := bs h
    obtain ⟨q9, eq9, h⟩ := bs h
    refine r_callV C (As := [vI q7.1, vI 2]) (b := a0) (rest := []) (st1 := [vI q9.1]) (v := some (vI q9.1)) (r := (RX11, TX11, 38)) (ci := 9) rfl eu10 (m_X11_throwsIf C.tr eq9) (lw_V q1500 q1502 qs49 q133 q1503) rfl hdX11_throwsIf rfl rfl (Nat.le_of_ble_eq_true rfl) ⟨by decide, by decide⟩ dX11_root_25 rfl ?_
    refine r_if_eq C dX11_root_28 (tgt := 33) (by decide) (fun c11 => ?_) (fun c11 => ?_)
    · have h := it_ h c11
      refine r_aload_n C 0 dX11_root_33 rfl rfl ?_
      refine r_bipush C dX11_root_34 (by decide) ?_
      refine r_iload_n C 1 dX11_root_36 rfl rfl ?_
      obtain ⟨u13, eu13, h⟩ := bs h
      obtain ⟨q12, eq12, h⟩ := bs h
      refine r_callV C (As := [vI 40, vI x1]) (b := a0) (rest := []) (st1 := []) (v := none) (r := (RX11, TX11, 38)) (ci := 9) rfl eu13 (m_X11_takes C.tr eq12) (lw_V q1617 q1619 qs67 q133 q1620) rfl hdX11_takes rfl rfl (Nat.le_of_ble_eq_true rfl) ⟨by decide, by decide⟩ dX11_root_37 rfl ?_
      refine r_aload_n C 0 dX11_root_40 rfl rfl ?_
      refine r_bipush C dX11_root_41 (by decide) ?_
      obtain ⟨u15, eu15, h⟩ := bs h
      obtain ⟨q14, eq14, h⟩ := bs h
      refine r_callV C (As := [vI 40]) (b := a0) (rest := []) (st1 := [vI q14.1]) (v := some (vI q14.1)) (r := (RX11, TX11, 38)) (ci := 9) rfl eu15 (m_X11_isNought C.tr eq14) (lw_V q1787 q1789 qs96 q133 q1790) rfl hdX11_isNought rfl rfl (Nat.le_of_ble_eq_true rfl) ⟨by decide, by decide⟩ dX11_root_43 rfl ?_
      refine r_if_eq C dX11_root_46 (tgt := 54) (by decide) (fun c16 => ?_) (fun c16 => ?_)
      · have h := it_ h c16
        refine r_aload_n C 0 dX11_root_54 rfl rfl ?_
        refine r_bipush C dX11_root_55 (by decide) ?_
        refine r_iload_n C 2 dX11_root_57 rfl rfl ?_
        obtain ⟨u18, eu18, h⟩ := bs h
        obtain ⟨q17, eq17, h⟩ := bs h
        refine r_callV C (As := [vI 40, vI x2]) (b := a0) (rest := []) (st1 := [vI q17.1]) (v := some (vI q17.1)) (r := (RX11, TX11, 38)) (ci := 9) rfl eu18 (m_X11_oftenRoot C.tr eq17) (lw_V q1791 q1793 qs97 q133 q1794) rfl hdX11_oftenRoot rfl rfl (Nat.le_of_ble_eq_true rfl) ⟨by decide, by decide⟩ dX11_root_58 rfl ?_
        cases h
        exact r_iret C hK dX11_root_61
      · have h := ie_ h c16
        refine r_bipush C dX11_root_49 (by decide) ?_
        refine r_goto C dX11_root_51 (tgt := 61) (by decide) ?_
        cases h
        exact r_iret C hK dX11_root_61
    · have h := ie_ h c11
      refine r_iconst C dX11_root_31 ?_
      cases h
      exact r_iret C hK dX11_root_32
theorem hdX11_root : zhd yX11_root 2 := by decide +kernel
theorem m_X11_root {l : Launch} {D : va_G} {b0 : Nat} (hl : l.stackTraces = false) {a0 : Nat} {x1 : Int} {x2 : Int} {μ : Me} {w : Int × Me} (h : s_X11_root a0 x1 x2 μ = some w) : MN l D b0 yX11_root (ws_ yX11_root cX11_root 3 (some .int)) 6 [vO a0, vI x1, vI x2] μ (some (vI w.1)) w.2 :=
  MN.of hl (by decide +kernel) (Nat.le_of_ble_eq_true rfl) (fun Z C _ _ => w_X11_root C h rfl)
noncomputable def s_X11_roots_l31_st (a0 : Nat) (x2 : Int) (x3 : Int) (μ : Me) : Option ((Int × Int × Me) ⊕ (Int × Me)) :=
  (ck μ 9 a0).bind fun _ =>
  (s_X11_p a0  μ).bind fun q9 =>
  (if w32 q9.1 < w32 x3 then
  some (.inr (x2, q9.2))
  else
  (ck q9.2 9 a0).bind fun _ =>
  (s_X11_isNought a0 40 q9.2).bind fun q12 =>
  (if w32 q12.1 = 0 then
  (ck q12.2 9 a0).bind fun _ =>
  (s_X11_oftenRoot a0 40 x3 q12.2).bind fun q15 =>
  (if w32 q15.1 ≤ 0 then
  some (.inl ((orI x2 0), (x3 + 1), q15.2))
  else
  some (.inl ((orI x2 (slI 1 x3)), (x3 + 1), q15.2)))
  else
  some (.inl ((orI x2 (slI 1 x3)), (x3 + 1), q12.2))))
theorem w_X11_roots_l31_st {Z : Zt} {fin : Int × Me} {w : ((Int × Int × Me) ⊕ (Int × Me))} (C : CX Z yX11_roots cX11_roots (some .int) 6 4) {a0 : Nat} {x2 : Int} {x3 : Int} {μ : Me} (h : s_X11_roots_l31_st a0 x2 x3 μ = some w) (hK : (Sum.elim (fun s : Int × Int × Me => WL Z (QN Z (some (vI fin.1)) fin.2) s.2.2 31 [(0, vO a0), (2, vI s.1), (3, vI s.2.1)] []) (fun r : Int × Me => r = fin)) w) : WL Z (QN Z (some (vI fin.1)) fin.2) μ 31 [(0, vO a0), (2, vI x2), (3, vI x3)] [] := by
  unfold s_X11_roots_l31_st at h
  refine r_iload_n C 2 dX11_roots_31 rfl rfl ?_
  refine r_aload_n C 0 dX11_roots_32 rfl rfl ?_
  obtain ⟨u10, eu10, h⟩ := bs h
  obtain ⟨q9, eq9, h⟩ := bs h
  refine r_callV C (As := []) (b := a0) (rest := [vI x3]) (st1 := [vI q9.1, vI x3]) (v := some (vI q9.1)) (r := (RX11, TX11, 38)) (ci := 9) rfl eu10 (m_X11_p C.tr eq9) (lw_V q1522 q1524 qs51 q133 q1525) rfl hdX11_p rfl rfl (Nat.le_of_ble_eq_true rfl) ⟨by decide, by decide⟩ dX11_roots_33 rfl ?_
  refine r_icmp_gt C dX11_roots_36 (tgt := 74) (by decide) (fun c11 => ?_) (fun c11 => ?_)
  · have h := it_ h c11
    refine r_iload_n C 1 dX11_roots_74 rfl rfl ?_
    cases h
    exact r_iret C hK dX11_roots_75
  · have h := ie_ h c11
    refine r_iload_n C 1 dX11_roots_39 rfl rfl ?_
    refine r_aload_n C 0 dX11_roots_40 rfl rfl ?_
    refine r_bipush C dX11_roots_41 (by decide) ?_
    obtain ⟨u13, eu13, h⟩ := bs h
    obtain ⟨q12, eq12, h⟩ := bs h
    refine r_callV C (As := [vI 40]) (b := a0) (rest := [vI x2]) (st1 := [vI q12.1, vI x2]) (v := some (vI q12.1)) (r := (RX11, TX11, 38)) (ci := 9) rfl eu13 (m_X11_isNought C.tr eq12) (lw_V q1787 q1789 qs96 q133 q1790) rfl hdX11_isNought rfl rfl (Nat.le_of_ble_eq_true rfl) ⟨by decide, by decide⟩ dX11_roots_43 rfl ?_
    refine r_if_ne C dX11_roots_46 (tgt := 59) (by decide) (fun c14 => ?_) (fun c14 => ?_)
    · have h := ie_ h c14
      refine r_iconst C dX11_roots_59 ?_
      refine r_iload_n C 2 dX11_roots_60 rfl rfl ?_
      refine r_ishl C dX11_roots_61 ?_
      refine r_goto C dX11_roots_62 (tgt := 66) (by decide) ?_
      refine r_ior C dX11_roots_66 ?_
      refine r_istore_n C [(2, vI (orI x2 (slI 1 x3))), (0, vO a0), (3, vI x3)] dX11_roots_67 rfl (by decide) rfl ?_
      refine r_iinc C 2 [(3, vI (x3 + 1)), (2, vI (orI x2 (slI 1 x3))), (0, vO a0)] dX11_roots_68 rfl (by decide) rfl ?_
      refine r_goto C dX11_roots_71 (tgt := 31) (by decide) ?_
      cases h
      refine r_sub [2, 1, 0] rfl ?_
      exact hK
    · have h := it_ h c14
      refine r_aload_n C 0 dX11_roots_49 rfl rfl ?_
      refine r_bipush C dX11_roots_50 (by decide) ?_
      refine r_iload_n C 2 dX11_roots_52 rfl rfl ?_
      obtain ⟨u16, eu16, h⟩ := bs h
      obtain ⟨q15, eq15, h⟩ := bs h
      refine r_callV C (As := [vI 40, vI x3]) (b := a0) (rest := [vI x2]) (st1 := [vI q15.1, vI x2]) (v := some (vI q15.1)) (r := (RX11, TX11, 38)) (ci := 9) rfl eu16 (m_X11_oftenRoot C.tr eq15) (lw_V q1791 q1793 qs97 q133 q1794) rfl hdX11_oftenRoot rfl rfl (Nat.le_of_ble_eq_true rfl) ⟨by decide, by decide⟩ dX11_roots_53 rfl ?_
      refine r_if_le C dX11_roots_56 (tgt := 65) (by decide) (fun c17 => ?_) (fun c17 => ?_)
      · have h := it_ h c17
        refine r_iconst C dX11_roots_65 ?_
        refine r_ior C dX11_roots_66 ?_
        refine r_istore_n C [(2, vI (orI x2 0)), (0, vO a0), (3, vI x3)] dX11_roots_67 rfl (by decide) rfl ?_
        refine r_iinc C 2 [(3, vI (x3 + 1)), (2, vI (orI x2 0)), (0, vO a0)] dX11_roots_68 rfl (by decide) rfl ?_
        refine r_goto C dX11_roots_71 (tgt := 31) (by decide) ?_
        cases h
        refine r_sub [2, 1, 0] rfl ?_
        exact hK
      · have h := ie_ h c17
        refine r_iconst C dX11_roots_59 ?_
        refine r_iload_n C 2 dX11_roots_60 rfl rfl ?_
        refine r_ishl C dX11_roots_61 ?_
        refine r_goto C dX11_roots_62 (tgt := 66) (by decide) ?_
        refine r_ior C dX11_roots_66 ?_
        refine r_istore_n C [(2, vI (orI x2 (slI 1 x3))), (0, vO a0), (3, vI x3)] dX11_roots_67 rfl (by decide) rfl ?_
        refine r_iinc C 2 [(3, vI (x3 + 1)), (2, vI (orI x2 (slI 1 x3))), (0, vO a0)] dX11_roots_68 rfl (by decide) rfl ?_
        refine r_goto C dX11_roots_71 (tgt := 31) (by decide) ?_
        cases h
        refine r_sub [2, 1, 0] rfl ?_
        exact hK
noncomputable def s_X11_roots_l31 (a0 : Nat) (x2 : Int) (x3 : Int) (μ : Me) : Option (Int × Me) :=
  whileO (fun s : Int × Int × Me => s_X11_roots_l31_st a0 s.1 s.2.1 s.2.2) (x2, x3, μ)
theorem e_X11_roots_l31 (a0 : Nat) (x2 : Int) (x3 : Int) (μ : Me) : s_X11_roots_l31 a0 x2 x3 μ = (s_X11_roots_l31_st a0 x2 x3 μ).bind fun x => x.elim (fun s : Int × Int × Me => s_X11_roots_l31 a0 s.1 s.2.1 s.2.2) some := whileO_eq _ _
theorem w_X11_roots_l31 {Z : Zt} {fin : Int × Me} {w : (Int × Me)} (C : CX Z yX11_roots cX11_roots (some .int) 6 4) {a0 : Nat} {x2 : Int} {x3 : Int} {μ : Me} (h : s_X11_roots_l31 a0 x2 x3 μ = some w) (hK : (fun r : Int × Me => r = fin) w) : WL Z (QN Z (some (vI fin.1)) fin.2) μ 31 [(0, vO a0), (2, vI x2), (3, vI x3)] [] := by
  refine whileO_walk (w := w) (fun s : Int × Int × Me => WL Z (QN Z (some (vI fin.1)) fin.2) s.2.2 31 [(0, vO a0), (2, vI s.1), (3, vI s.2.1)] []) (fun s v h2 hi hr => ?_) (x2, x3, μ) h
  refine w_X11_roots_l31_st (fin := fin) C h2 ?_
  cases v with
  | inl s2 => exact hi s2 rfl
  | inr r => have e := hr r rfl; subst e; exact hK
noncomputable def s_X11_roots (a0 : Nat) (x1 : Int) (μ : Me) : Option (Int × Me) :=
  (pI μ 9 a0 0 0).bind fun m1 =>
  (ck m1 9 a0).bind fun _ =>
  (s_X11_noForm a0 x1 m1).bind fun q2 =>
  (ck q2.2 9 a0).bind fun _ =>
  (s_X11_throwsIf a0 q2.1 1 q2.2).bind fun q4 =>
  (if w32 q4.1 = 0 then
  (ck q4.2 9 a0).bind fun _ =>
  (s_X11_takes a0 40 x1 q4.2).bind fun q7 =>
  s_X11_roots_l31 a0 0 0 q7
  else
  some (0, q4.2))
theorem w_X11_roots {Z : Zt} {fin : Int × Me} {w : Int × Me} (C : CX Z yX11_roots cX11_roots (some .int) 6 4) {a0 : Nat} {x1 : Int} {μ : Me} (h : s_X11_roots a0 x1 μ = some w) (hK : w = fin) : WL Z (QN Z (some (vI fin.1)) fin.2) μ 0 [(0, vO a0), (1, vI x1)] [] := by
  unfold s_X11_roots at h
  refine r_aload_n C 0 dX11_roots_0 rfl rfl ?_
  refine r_iconst C dX11_roots_1 ?_
  obtain ⟨m1, em1, h⟩ := bs h
  refine r_putI C (c := 9) (r := (RX11, TX11, 38)) rfl 0 (by decide) rfl ⟨rfl, rfl⟩ rfl em1 q1313 dX11_roots_2 ?_
  refine r_aload_n C 0 dX11_roots_5 rfl rfl ?_
  refine r_aload_n C 0 dX11_roots_6 rfl rfl ?_
  refine r_iload_n C 1 dX11_roots_7 rfl rfl ?_
  obtain ⟨u3, eu3, h⟩ := bs h
  obtain ⟨q2, eq2, h⟩ := bs h
  refine r_callV C (As := [vI x1]) (b := a0) (rest := [vO a0]) (st1 := [vI q2.1, vO a0]) (v := some (vI q2.1)) (r := (RX11, TX11, 38)) (ci := 9) rfl eu3 (m_X11_noForm C.tr eq2) (lw_V q1601 q1603 qs64 q133 q1604) rfl hdX11_noForm rfl rfl (Nat.le_of_ble_eq_true rfl) ⟨by decide, by decide⟩ dX11_roots_8 rfl ?_
  refine r_iconst C dX11_roots_11 ?_
  obtain ⟨u5, eu5, h⟩ := bs h
  obtain ⟨q4, eq4, h⟩ := bs h
  refine r_callV C (As := [vI q2.1, vI 1]) (b := a0) (rest := []) (st1 := [vI q4.1]) (v := some (vI q4.1)) (r := (RX11, TX11, 38)) (ci := 9) rfl eu5 (m_X11_throwsIf C.tr eq4) (lw_V q1500 q1502 qs49 q133 q1503) rfl hdX11_throwsIf rfl rfl (Nat.le_of_ble_eq_true rfl) ⟨by decide, by decide⟩ dX11_roots_12 rfl ?_
  refine r_if_eq C dX11_roots_15 (tgt := 20) (by decide) (fun c6 => ?_) (fun c6 => ?_)
  · have h := it_ h c6
    refine r_aload_n C 0 dX11_roots_20 rfl rfl ?_
    refine r_bipush C dX11_roots_21 (by decide) ?_
    refine r_iload_n C 1 dX11_roots_23 rfl rfl ?_
    obtain ⟨u8, eu8, h⟩ := bs h
    obtain ⟨q7, eq7, h⟩ := bs h
    refine r_callV C (As := [vI 40, vI x1]) (b := a0) (rest := []) (st1 := []) (v := none) (r := (RX11, TX11, 38)) (ci := 9) rfl eu8 (m_X11_takes C.tr eq7) (lw_V q1617 q1619 qs67 q133 q1620) rfl hdX11_takes rfl rfl (Nat.le_of_ble_eq_true rfl) ⟨by decide, by decide⟩ dX11_roots_24 rfl ?_
    refine r_iconst C dX11_roots_27 ?_
    refine r_istore_n C [(2, vI 0), (0, vO a0), (1, vI x1)] dX11_roots_28 rfl (by decide) rfl ?_
    refine r_iconst C dX11_roots_29 ?_
    refine r_istore_n C [(3, vI 0), (2, vI 0), (0, vO a0), (1, vI x1)] dX11_roots_30 rfl (by decide) rfl ?_
    refine r_sub [2, 1, 0] rfl ?_
    exact w_X11_roots_l31 (fin := fin) C h hK
  · have h := ie_ h c6
    refine r_iconst C dX11_roots_18 ?_
    cases h
    exact r_iret C hK dX11_roots_19
theorem hdX11_roots : zhd yX11_roots 1 := by decide +kernel
theorem m_X11_roots {l : Launch} {D : va_G} {b0 : Nat} (hl : l.stackTraces = false) {a0 : Nat} {x1 : Int} {μ : Me} {w : Int × Me} (h : s_X11_roots a0 x1 μ = some w) : MN l D b0 yX11_roots (ws_ yX11_roots cX11_roots 4 (some .int)) 6 [vO a0, vI x1] μ (some (vI w.1)) w.2 :=
  MN.of hl (by decide +kernel) (Nat.le_of_ble_eq_true rfl) (fun Z C _ _ => w_X11_roots C h rfl)
noncomputable def s_X11_empty_l36_st (a0 : Nat) (x2 : Int) (x3 : Int) (μ : Me) : Option ((Int × Int × Me) ⊕ (Int × Me)) :=
  (ck μ 9 a0).bind fun _ =>
  (s_X11_p a0  μ).bind fun q11 =>
  (if w32 q11.1 < w32 x3 then
  (bz2 x2).bind fun _ =>
  some (.inr (x2, q11.2))
  else
  (if w32 x2 = 0 then
  (ck q11.2 9 a0).bind fun _ =>
  (s_X11_oftenRoot a0 40 x3 q11.2).bind fun q17 =>
  (gR q17.2 9 a0 4).bind fun v19 =>
  (aI q17.2 101 v19 40).bind fun v20 =>
  (if w32 (2 * q17.1) ≤ w32 v20 then
  some (.inl (0, (x3 + 1), q17.2))
  else
  some (.inl (1, (x3 + 1), q17.2)))
  else
  (bz2 x2).bind fun _ =>
  some (.inr (x2, q11.2))))
theorem w_X11_empty_l36_st {Z : Zt} {fin : Int × Me} {w : ((Int × Int × Me) ⊕ (Int × Me))} (C : CX Z yX11_empty cX11_empty (some .boolean) 6 4) {a0 : Nat} {x2 : Int} {x3 : Int} {μ : Me} (h : s_X11_empty_l36_st a0 x2 x3 μ = some w) (hK : (Sum.elim (fun s : Int × Int × Me => WL Z (QN Z (some (vI fin.1)) fin.2) s.2.2 36 [(0, vO a0), (2, vI s.1), (3, vI s.2.1)] []) (fun r : Int × Me => r = fin)) w) : WL Z (QN Z (some (vI fin.1)) fin.2) μ 36 [(0, vO a0), (2, vI x2), (3, vI x3)] [] := by
  unfold s_X11_empty_l36_st at h
  refine r_iload_n C 2 dX11_empty_36 rfl rfl ?_
  refine r_aload_n C 0 dX11_empty_37 rfl rfl ?_
  obtain ⟨u12, eu12, h⟩ := bs h
  obtain ⟨q11, eq11, h⟩ := bs h
  refine r_callV C (As := []) (b := a0) (rest := [vI x3]) (st1 := [vI q11.1, vI x3]) (v := some (vI q11.1)) (r := (RX11, TX11, 38)) (ci := 9) rfl eu12 (m_X11_p C.tr eq11) (lw_V q1522 q1524 qs51 q133 q1525) rfl hdX11_p rfl rfl (Nat.le_of_ble_eq_true rfl) ⟨by decide, by decide⟩ dX11_empty_38 rfl ?_
  refine r_icmp_gt C dX11_empty_41 (tgt := 79) (by decide) (fun c13 => ?_) (fun c13 => ?_)
  · have h := it_ h c13
    refine r_iload_n C 1 dX11_empty_79 rfl rfl ?_
    obtain ⟨u14, eu14, h⟩ := bs h
    cases h
    exact r_zret C (bz2_ok eu14) hK dX11_empty_80
  · have h := ie_ h c13
    refine r_iload_n C 1 dX11_empty_44 rfl rfl ?_
    refine r_if_ne C dX11_empty_45 (tgt := 79) (by decide) (fun c15 => ?_) (fun c15 => ?_)
    · have h := ie_ h c15
      refine r_iload_n C 1 dX11_empty_79 rfl rfl ?_
      obtain ⟨u16, eu16, h⟩ := bs h
      cases h
      exact r_zret C (bz2_ok eu16) hK dX11_empty_80
    · have h := it_ h c15
      refine r_iconst C dX11_empty_48 ?_
      refine r_aload_n C 0 dX11_empty_49 rfl rfl ?_
      refine r_bipush C dX11_empty_50 (by decide) ?_
      refine r_iload_n C 2 dX11_empty_52 rfl rfl ?_
      obtain ⟨u18, eu18, h⟩ := bs h
      obtain ⟨q17, eq17, h⟩ := bs h
      refine r_callV C (As := [vI 40, vI x3]) (b := a0) (rest := [vI 2]) (st1 := [vI q17.1, vI 2]) (v := some (vI q17.1)) (r := (RX11, TX11, 38)) (ci := 9) rfl eu18 (m_X11_oftenRoot C.tr eq17) (lw_V q1791 q1793 qs97 q133 q1794) rfl hdX11_oftenRoot rfl rfl (Nat.le_of_ble_eq_true rfl) ⟨by decide, by decide⟩ dX11_empty_53 rfl ?_
      refine r_imul C dX11_empty_56 ?_
      refine r_aload_n C 0 dX11_empty_57 rfl rfl ?_
      obtain ⟨v19, ev19, h⟩ := bs h
      refine r_getR C (c := 9) (r := (RX11, TX11, 38)) rfl 4 (by decide) rfl ev19 q1317 dX11_empty_58 ?_
      refine r_bipush C dX11_empty_61 (by decide) ?_
      obtain ⟨v20, ev20, h⟩ := bs h
      refine r_iald C ev20 dX11_empty_63 ?_
      refine r_icmp_le C dX11_empty_64 (tgt := 71) (by decide) (fun c21 => ?_) (fun c21 => ?_)
      · have h := it_ h c21
        refine r_iconst C dX11_empty_71 ?_
        refine r_istore_n C [(2, vI 0), (0, vO a0), (3, vI x3)] dX11_empty_72 rfl (by decide) rfl ?_
        refine r_iinc C 2 [(3, vI (x3 + 1)), (2, vI 0), (0, vO a0)] dX11_empty_73 rfl (by decide) rfl ?_
        refine r_goto C dX11_empty_76 (tgt := 36) (by decide) ?_
        cases h
        refine r_sub [2, 1, 0] rfl ?_
        exact hK
      · have h := ie_ h c21
        refine r_iconst C dX11_empty_67 ?_
        refine r_goto C dX11_empty_68 (tgt := 72) (by decide) ?_
        refine r_istore_n C [(2, vI 1), (0, vO a0), (3, vI x3)] dX11_empty_72 rfl (by decide) rfl ?_
        refine r_iinc C 2 [(3, vI (x3 + 1)), (2, vI 1), (0, vO a0)] dX11_empty_73 rfl (by decide) rfl ?_
        refine r_goto C dX11_empty_76 (tgt := 36) (by decide) ?_
        cases h
        refine r_sub [2, 1, 0] rfl ?_
        exact hK
noncomputable def s_X11_empty_l36 (a0 : Nat) (x2 : Int) (x3 : Int) (μ : Me) : Option (Int × Me) :=
  whileO (fun s : Int × Int × Me => s_X11_empty_l36_st a0 s.1 s.2.1 s.2.2) (x2, x3, μ)
theorem e_X11_empty_l36 (a0 : Nat) (x2 : Int) (x3 : Int) (μ : Me) : s_X11_empty_l36 a0 x2 x3 μ = (s_X11_empty_l36_st a0 x2 x3 μ).bind fun x => x.elim (fun s : Int × Int × Me => s_X11_empty_l36 a0 s.1 s.2.1 s.2.2) some := whileO_eq _ _
theorem w_X11_empty_l36 {Z : Zt} {fin : Int × Me} {w : (Int × Me)} (C : CX Z yX11_empty cX11_empty (some .boolean) 6 4) {a0 : Nat} {x2 : Int} {x3 : Int} {μ : Me} (h : s_X11_empty_l36 a0 x2 x3 μ = some w) (hK : (fun r : Int × Me => r = fin) w) : WL Z (QN Z (some (vI fin.1)) fin.2) μ 36 [(0, vO a0), (2, vI x2), (3, vI x3)] [] := by
  refine whileO_walk (w := w) (fun s : Int × Int × Me => WL Z (QN Z (some (vI fin.1)) fin.2) s.2.2 36 [(0, vO a0), (2, vI s.1), (3, vI s.2.1)] []) (fun s v h2 hi hr => ?_) (x2, x3, μ) h
  refine w_X11_empty_l36_st (fin := fin) C h2 ?_
  cases v with
  | inl s2 => exact hi s2 rfl
  | inr r => have e := hr r rfl; subst e; exact hK
noncomputable def s_X11_empty (a0 : Nat) (x1 : Int) (μ : Me) : Option (Int × Me) :=
  (pI μ 9 a0 0 0).bind fun m1 =>
  (ck m1 9 a0).bind fun _ =>
  (s_X11_noForm a0 x1 m1).bind fun q2 =>
  (ck q2.2 9 a0).bind fun _ =>
  (s_X11_throwsIf a0 q2.1 1 q2.2).bind fun q4 =>
  (if w32 q4.1 = 0 then
  (ck q4.2 9 a0).bind fun _ =>
  (s_X11_takes a0 40 x1 q4.2).bind fun q7 =>
  (ck q7 9 a0).bind fun _ =>
  (s_X11_isNought a0 40 q7).bind fun q9 =>
  s_X11_empty_l36 a0 q9.1 0 q9.2
  else
  some (0, q4.2))
theorem w_X11_empty {Z : Zt} {fin : Int × Me} {w : Int × Me} (C : CX Z yX11_empty cX11_empty (some .boolean) 6 4) {a0 : Nat} {x1 : Int} {μ : Me} (h : s_X11_empty a0 x1 μ = some w) (hK : w = fin) : WL Z (QN Z (some (vI fin.1)) fin.2) μ 0 [(0, vO a0), (1, vI x1)] [] := by
  unfold s_X11_empty at h
  refine r_aload_n C 0 dX11_empty_0 rfl rfl ?_
  refine r_iconst C dX11_empty_1 ?_
  obtain ⟨m1, em1, h⟩ := bs h
  refine r_putI C (c := 9) (r := (RX11, TX11, 38)) rfl 0 (by decide) rfl ⟨rfl, rfl⟩ rfl em1 q1313 dX11_empty_2 ?_
  refine r_aload_n C 0 dX11_empty_5 rfl rfl ?_
  refine r_aload_n C 0 dX11_empty_6 rfl rfl ?_
  refine r_iload_n C 1 dX11_empty_7 rfl rfl ?_
  obtain ⟨u3, eu3, h⟩ := bs h
  obtain ⟨q2, eq2, h⟩ := bs h
  refine r_callV C (As := [vI x1]) (b := a0) (rest := [vO a0]) (st1 := [vI q2.1, vO a0]) (v := some (vI q2.1)) (r := (RX11, TX11, 38)) (ci := 9) rfl eu3 (m_X11_noForm C.tr eq2) (lw_V q1601 q1603 qs64 q133 q1604) rfl hdX11_noForm rfl rfl (Nat.le_of_ble_eq_true rfl) ⟨by decide, by decide⟩ dX11_empty_8 rfl ?_
  refine r_iconst C dX11_empty_11 ?_
  obtain ⟨u5, eu5, h⟩ := bs h
  obtain ⟨q4, eq4, h⟩ := bs h
  refine r_callV C (As := [vI q2.1, vI 1]) (b := a0) (rest := []) (st1 := [vI q4.1]) (v := some (vI q4.1)) (r := (RX11, TX11, 38)) (ci := 9) rfl eu5 (m_X11_throwsIf C.tr eq4) (lw_V q1500 q1502 qs49 q133 q1503) rfl hdX11_throwsIf rfl rfl (Nat.le_of_ble_eq_true rfl) ⟨by decide, by decide⟩ dX11_empty_12 rfl ?_
  refine r_if_eq C dX11_empty_15 (tgt := 20) (by decide) (fun c6 => ?_) (fun c6 => ?_)
  · have h := it_ h c6
    refine r_aload_n C 0 dX11_empty_20 rfl rfl ?_
    refine r_bipush C dX11_empty_21 (by decide) ?_
    refine r_iload_n C 1 dX11_empty_23 rfl rfl ?_
    obtain ⟨u8, eu8, h⟩ := bs h
    obtain ⟨q7, eq7, h⟩ := bs h
    refine r_callV C (As := [vI 40, vI x1]) (b := a0) (rest := []) (st1 := []) (v := none) (r := (RX11, TX11, 38)) (ci := 9) rfl eu8 (m_X11_takes C.tr eq7) (lw_V q1617 q1619 qs67 q133 q1620) rfl hdX11_takes rfl rfl (Nat.le_of_ble_eq_true rfl) ⟨by decide, by decide⟩ dX11_empty_24 rfl ?_
    refine r_aload_n C 0 dX11_empty_27 rfl rfl ?_
    refine r_bipush C dX11_empty_28 (by decide) ?_
    obtain ⟨u10, eu10, h⟩ := bs h
    obtain ⟨q9, eq9, h⟩ := bs h
    refine r_callV C (As := [vI 40]) (b := a0) (rest := []) (st1 := [vI q9.1]) (v := some (vI q9.1)) (r := (RX11, TX11, 38)) (ci := 9) rfl eu10 (m_X11_isNought C.tr eq9) (lw_V q1787 q1789 qs96 q133 q1790) rfl hdX11_isNought rfl rfl (Nat.le_of_ble_eq_true rfl) ⟨by decide, by decide⟩ dX11_empty_30 rfl ?_
    refine r_istore_n C [(2, vI q9.1), (0, vO a0), (1, vI x1)] dX11_empty_33 rfl (by decide) rfl ?_
    refine r_iconst C dX11_empty_34 ?_
    refine r_istore_n C [(3, vI 0), (2, vI q9.1), (0, vO a0), (1, vI x1)] dX11_empty_35 rfl (by decide) rfl ?_
    refine r_sub [2, 1, 0] rfl ?_
    exact w_X11_empty_l36 (fin := fin) C h hK
  · have h := ie_ h c6
    refine r_iconst C dX11_empty_18 ?_
    cases h
    exact r_zret C (Or.inl rfl) hK dX11_empty_19
theorem hdX11_empty : zhd yX11_empty 1 := by decide +kernel
theorem m_X11_empty {l : Launch} {D : va_G} {b0 : Nat} (hl : l.stackTraces = false) {a0 : Nat} {x1 : Int} {μ : Me} {w : Int × Me} (h : s_X11_empty a0 x1 μ = some w) : MN l D b0 yX11_empty (ws_ yX11_empty cX11_empty 4 (some .boolean)) 6 [vO a0, vI x1] μ (some (vI w.1)) w.2 :=
  MN.of hl (by decide +kernel) (Nat.le_of_ble_eq_true rfl) (fun Z C _ _ => w_X11_empty C h rfl)
noncomputable def s_X11_values_l12_st (a0 : Nat) (x1 : Int) (x2 : Int) (x3 : Int) (μ : Me) : Option ((Int × Me) ⊕ ((Int × Me) ⊕ (Me))) :=
  (ck μ 9 a0).bind fun _ =>
  (s_X11_p a0  μ).bind fun q4 =>
  (if w32 q4.1 ≤ w32 x3 then
  some (.inr (.inl ((x2 + 1), q4.2)))
  else
  (gR q4.2 9 a0 25).bind fun v7 =>
  (ck q4.2 9 a0).bind fun _ =>
  (s_X11_valueAt a0 x1 x2 x3 q4.2).bind fun q8 =>
  (uI q8.2 v7 ((19 * x2) + x3) q8.1).bind fun m10 =>
  some (.inl ((x3 + 1), m10)))
theorem w_X11_values_l12_st {Z : Zt} {fin : Me} {w : ((Int × Me) ⊕ ((Int × Me) ⊕ (Me)))} (C : CX Z yX11_values cX11_values none 5 4) {a0 : Nat} {x1 : Int} {x2 : Int} {x3 : Int} {μ : Me} (h : s_X11_values_l12_st a0 x1 x2 x3 μ = some w) (hK : (Sum.elim (fun s : Int × Me => WL Z (QN Z none fin) s.2 12 [(0, vO a0), (1, vI x1), (2, vI x2), (3, vI s.1)] []) (Sum.elim (fun s : Int × Me => WL Z (QN Z none fin) s.2 2 [(0, vO a0), (1, vI x1), (2, vI s.1)] []) (fun r : Me => r = fin))) w) : WL Z (QN Z none fin) μ 12 [(0, vO a0), (1, vI x1), (2, vI x2), (3, vI x3)] [] := by
  unfold s_X11_values_l12_st at h
  refine r_iload_n C 3 dX11_values_12 rfl rfl ?_
  refine r_aload_n C 0 dX11_values_13 rfl rfl ?_
  obtain ⟨u5, eu5, h⟩ := bs h
  obtain ⟨q4, eq4, h⟩ := bs h
  refine r_callV C (As := []) (b := a0) (rest := [vI x3]) (st1 := [vI q4.1, vI x3]) (v := some (vI q4.1)) (r := (RX11, TX11, 38)) (ci := 9) rfl eu5 (m_X11_p C.tr eq4) (lw_V q1522 q1524 qs51 q133 q1525) rfl hdX11_p rfl rfl (Nat.le_of_ble_eq_true rfl) ⟨by decide, by decide⟩ dX11_values_14 rfl ?_
  refine r_icmp_ge C dX11_values_17 (tgt := 44) (by decide) (fun c6 => ?_) (fun c6 => ?_)
  · have h := it_ h c6
    refine r_iinc C 2 [(2, vI (x2 + 1)), (0, vO a0), (1, vI x1), (3, vI x3)] dX11_values_44 rfl (by decide) rfl ?_
    refine r_goto C dX11_values_47 (tgt := 2) (by decide) ?_
    cases h
    refine r_sub [1, 2, 0] rfl ?_
    exact hK
  · have h := ie_ h c6
    refine r_aload_n C 0 dX11_values_20 rfl rfl ?_
    obtain ⟨v7, ev7, h⟩ := bs h
    refine r_getR C (c := 9) (r := (RX11, TX11, 38)) rfl 25 (by decide) rfl ev7 q1338 dX11_values_21 ?_
    refine r_bipush C dX11_values_24 (by decide) ?_
    refine r_iload_n C 2 dX11_values_26 rfl rfl ?_
    refine r_imul C dX11_values_27 ?_
    refine r_iload_n C 3 dX11_values_28 rfl rfl ?_
    refine r_iadd C dX11_values_29 ?_
    refine r_aload_n C 0 dX11_values_30 rfl rfl ?_
    refine r_iload_n C 1 dX11_values_31 rfl rfl ?_
    refine r_iload_n C 2 dX11_values_32 rfl rfl ?_
    refine r_iload_n C 3 dX11_values_33 rfl rfl ?_
    obtain ⟨u9, eu9, h⟩ := bs h
    obtain ⟨q8, eq8, h⟩ := bs h
    refine r_callV C (As := [vI x1, vI x2, vI x3]) (b := a0) (rest := [vI ((19 * x2) + x3), vO v7]) (st1 := [vI q8.1, vI ((19 * x2) + x3), vO v7]) (v := some (vI q8.1)) (r := (RX11, TX11, 38)) (ci := 9) rfl eu9 (m_X11_valueAt C.tr eq8) (lw_V q1625 q1627 qs69 q133 q1628) rfl hdX11_valueAt rfl rfl (Nat.le_of_ble_eq_true rfl) ⟨by decide, by decide⟩ dX11_values_34 rfl ?_
    obtain ⟨m10, em10, h⟩ := bs h
    refine r_iast C em10 dX11_values_37 ?_
    refine r_iinc C 3 [(3, vI (x3 + 1)), (0, vO a0), (1, vI x1), (2, vI x2)] dX11_values_38 rfl (by decide) rfl ?_
    refine r_goto C dX11_values_41 (tgt := 12) (by decide) ?_
    cases h
    refine r_sub [1, 2, 3, 0] rfl ?_
    exact hK
noncomputable def s_X11_values_l12 (a0 : Nat) (x1 : Int) (x2 : Int) (x3 : Int) (μ : Me) : Option ((Int × Me) ⊕ (Me)) :=
  whileO (fun s : Int × Me => s_X11_values_l12_st a0 x1 x2 s.1 s.2) (x3, μ)
theorem e_X11_values_l12 (a0 : Nat) (x1 : Int) (x2 : Int) (x3 : Int) (μ : Me) : s_X11_values_l12 a0 x1 x2 x3 μ = (s_X11_values_l12_st a0 x1 x2 x3 μ).bind fun x => x.elim (fun s : Int × Me => s_X11_values_l12 a0 x1 x2 s.1 s.2) some := whileO_eq _ _
theorem w_X11_values_l12 {Z : Zt} {fin : Me} {w : ((Int × Me) ⊕ (Me))} (C : CX Z yX11_values cX11_values none 5 4) {a0 : Nat} {x1 : Int} {x2 : Int} {x3 : Int} {μ : Me} (h : s_X11_values_l12 a0 x1 x2 x3 μ = some w) (hK : (Sum.elim (fun s : Int × Me => WL Z (QN Z none fin) s.2 2 [(0, vO a0), (1, vI x1), (2, vI s.1)] []) (fun r : Me => r = fin)) w) : WL Z (QN Z none fin) μ 12 [(0, vO a0), (1, vI x1), (2, vI x2), (3, vI x3)] [] := by
  refine whileO_walk (w := w) (fun s : Int × Me => WL Z (QN Z none fin) s.2 12 [(0, vO a0), (1, vI x1), (2, vI x2), (3, vI s.1)] []) (fun s v h2 hi hr => ?_) (x3, μ) h
  refine w_X11_values_l12_st (fin := fin) C h2 ?_
  cases v with
  | inl s2 => exact hi s2 rfl
  | inr r => have e := hr r rfl; subst e; exact hK
noncomputable def s_X11_values_l2_st (a0 : Nat) (x1 : Int) (x2 : Int) (μ : Me) : Option ((Int × Me) ⊕ (Me)) :=
  (ck μ 9 a0).bind fun _ =>
  (s_X11_p a0  μ).bind fun q1 =>
  (if w32 q1.1 ≤ w32 x2 then
  some (.inr q1.2)
  else
  s_X11_values_l12 a0 x1 x2 0 q1.2)
theorem w_X11_values_l2_st {Z : Zt} {fin : Me} {w : ((Int × Me) ⊕ (Me))} (C : CX Z yX11_values cX11_values none 5 4) {a0 : Nat} {x1 : Int} {x2 : Int} {μ : Me} (h : s_X11_values_l2_st a0 x1 x2 μ = some w) (hK : (Sum.elim (fun s : Int × Me => WL Z (QN Z none fin) s.2 2 [(0, vO a0), (1, vI x1), (2, vI s.1)] []) (fun r : Me => r = fin)) w) : WL Z (QN Z none fin) μ 2 [(0, vO a0), (1, vI x1), (2, vI x2)] [] := by
  unfold s_X11_values_l2_st at h
  refine r_iload_n C 2 dX11_values_2 rfl rfl ?_
  refine r_aload_n C 0 dX11_values_3 rfl rfl ?_
  obtain ⟨u2, eu2, h⟩ := bs h
  obtain ⟨q1, eq1, h⟩ := bs h
  refine r_callV C (As := []) (b := a0) (rest := [vI x2]) (st1 := [vI q1.1, vI x2]) (v := some (vI q1.1)) (r := (RX11, TX11, 38)) (ci := 9) rfl eu2 (m_X11_p C.tr eq1) (lw_V q1522 q1524 qs51 q133 q1525) rfl hdX11_p rfl rfl (Nat.le_of_ble_eq_true rfl) ⟨by decide, by decide⟩ dX11_values_4 rfl ?_
  refine r_icmp_ge C dX11_values_7 (tgt := 50) (by decide) (fun c3 => ?_) (fun c3 => ?_)
  · have h := it_ h c3
    cases h
    exact r_vret C hK dX11_values_50
  · have h := ie_ h c3
    refine r_iconst C dX11_values_10 ?_
    refine r_istore_n C [(3, vI 0), (0, vO a0), (1, vI x1), (2, vI x2)] dX11_values_11 rfl (by decide) rfl ?_
    refine r_sub [1, 2, 3, 0] rfl ?_
    exact w_X11_values_l12 (fin := fin) C h hK
noncomputable def s_X11_values_l2 (a0 : Nat) (x1 : Int) (x2 : Int) (μ : Me) : Option (Me) :=
  whileO (fun s : Int × Me => s_X11_values_l2_st a0 x1 s.1 s.2) (x2, μ)
theorem e_X11_values_l2 (a0 : Nat) (x1 : Int) (x2 : Int) (μ : Me) : s_X11_values_l2 a0 x1 x2 μ = (s_X11_values_l2_st a0 x1 x2 μ).bind fun x => x.elim (fun s : Int × Me => s_X11_values_l2 a0 x1 s.1 s.2) some := whileO_eq _ _
theorem w_X11_values_l2 {Z : Zt} {fin : Me} {w : (Me)} (C : CX Z yX11_values cX11_values none 5 4) {a0 : Nat} {x1 : Int} {x2 : Int} {μ : Me} (h : s_X11_values_l2 a0 x1 x2 μ = some w) (hK : (fun r : Me => r = fin) w) : WL Z (QN Z none fin) μ 2 [(0, vO a0), (1, vI x1), (2, vI x2)] [] := by
  refine whileO_walk (w := w) (fun s : Int × Me => WL Z (QN Z none fin) s.2 2 [(0, vO a0), (1, vI x1), (2, vI s.1)] []) (fun s v h2 hi hr => ?_) (x2, μ) h
  refine w_X11_values_l2_st (fin := fin) C h2 ?_
  cases v with
  | inl s2 => exact hi s2 rfl
  | inr r => have e := hr r rfl; subst e; exact hK
noncomputable def s_X11_values (a0 : Nat) (x1 : Int) (μ : Me) : Option (Me) :=
  s_X11_values_l2 a0 x1 0 μ
theorem w_X11_values {Z : Zt} {fin : Me} {w : Me} (C : CX Z yX11_values cX11_values none 5 4) {a0 : Nat} {x1 : Int} {μ : Me} (h : s_X11_values a0 x1 μ = some w) (hK : w = fin) : WL Z (QN Z none fin) μ 0 [(0, vO a0), (1, vI x1)] [] := by
  unfold s_X11_values at h
  refine r_iconst C dX11_values_0 ?_
  refine r_istore_n C [(2, vI 0), (0, vO a0), (1, vI x1)] dX11_values_1 rfl (by decide) rfl ?_
  refine r_sub [1, 2, 0] rfl ?_
  exact w_X11_values_l2 (fin := fin) C h hK
theorem hdX11_values : zhd yX11_values 1 := by decide +kernel
theorem m_X11_values {l : Launch} {D : va_G} {b0 : Nat} (hl : l.stackTraces = false) {a0 : Nat} {x1 : Int} {μ : Me} {w : Me} (h : s_X11_values a0 x1 μ = some w) : MN l D b0 yX11_values (ws_ yX11_values cX11_values 4 none) 5 [vO a0, vI x1] μ none w :=
  MN.of hl (by decide +kernel) (Nat.le_of_ble_eq_true rfl) (fun Z C _ _ => w_X11_values C h rfl)
noncomputable def s_X11_tried_b216 (x1 : Int) (x2 : Int)  (μ : Me) : Option (Int × Me) :=
  (if w32 x1 = 0 then
  some (x2, μ)
  else
  some ((-1), μ))
theorem w_X11_tried_b216 {Z : Zt} {fin : Int × Me} {w : (Int × Me)} (C : CX Z yX11_tried cX11_tried (some .int) 6 9) {x1 : Int} {x2 : Int}  {μ : Me} (h : s_X11_tried_b216 x1 x2 μ = some w) (hK : (fun r : Int × Me => r = fin) w) : WL Z (QN Z (some (vI fin.1)) fin.2) μ 216 [(1, vI x1), (2, vI x2)] [] := by
  unfold s_X11_tried_b216 at h
  refine r_iload_n C 0 dX11_tried_216 rfl rfl ?_
  refine r_if_eq C dX11_tried_217 (tgt := 224) (by decide) (fun c12 => ?_) (fun c12 => ?_)
  · have h := it_ h c12
    refine r_iload_n C 1 dX11_tried_224 rfl rfl ?_
    cases h
    exact r_iret C hK dX11_tried_225
  · have h := ie_ h c12
    refine r_iconst C dX11_tried_220 ?_
    refine r_goto C dX11_tried_221 (tgt := 225) (by decide) ?_
    cases h
    exact r_iret C hK dX11_tried_225
noncomputable def s_X11_tried_b168 (x5 : Int) (x6 : Int) (x7 : Int) (x8 : Int)  (μ : Me) : Option (Int × Me) :=
  some (((((((20 * x5) + x6) * 20) + x7) * 20) + x8), μ)
theorem w_X11_tried_b168 {Z : Zt} {fin : Int × Me} {w : (Int × Me)} (C : CX Z yX11_tried cX11_tried (some .int) 6 9) {x5 : Int} {x6 : Int} {x7 : Int} {x8 : Int}  {μ : Me} (h : s_X11_tried_b168 x5 x6 x7 x8 μ = some w) (hK : (fun r : Int × Me => r = fin) w) : WL Z (QN Z (some (vI fin.1)) fin.2) μ 168 [(5, vI x5), (6, vI x6), (7, vI x7), (8, vI x8)] [] := by
  unfold s_X11_tried_b168 at h
  refine r_bipush C dX11_tried_168 (by decide) ?_
  refine r_iload C 0 dX11_tried_170 rfl ?_
  refine r_imul C dX11_tried_172 ?_
  refine r_iload C 1 dX11_tried_173 rfl ?_
  refine r_iadd C dX11_tried_175 ?_
  refine r_bipush C dX11_tried_176 (by decide) ?_
  refine r_imul C dX11_tried_178 ?_
  refine r_iload C 2 dX11_tried_179 rfl ?_
  refine r_iadd C dX11_tried_181 ?_
  refine r_bipush C dX11_tried_182 (by decide) ?_
  refine r_imul C dX11_tried_184 ?_
  refine r_iload C 3 dX11_tried_185 rfl ?_
  refine r_iadd C dX11_tried_187 ?_
  cases h
  exact r_iret C hK dX11_tried_188
noncomputable def s_X11_tried_l90_st (a0 : Nat) (x1 : Int) (x2 : Int) (x3 : Int) (x4 : Int) (x5 : Int) (x6 : Int) (x7 : Int) (x8 : Int) (μ : Me) : Option ((Int × Int × Me) ⊕ ((Int × Int × Me) ⊕ ((Int × Int × Me) ⊕ ((Int × Int × Me) ⊕ (Int × Me))))) :=
  (ck μ 9 a0).bind fun _ =>
  (s_X11_p a0  μ).bind fun q22 =>
  (if w32 q22.1 ≤ w32 x8 then
  some (.inr (.inl (x2, (x7 + 1), q22.2)))
  else
  (gR q22.2 9 a0 25).bind fun v25 =>
  (aI q22.2 101 v25 ((19 * x6) + x8)).bind fun v26 =>
  (if w32 v26 = w32 x4 then
  (ck q22.2 9 a0).bind fun _ =>
  (s_X11_takesTable a0 x5 x6 x7 x8 q22.2).bind fun q28 =>
  (ck q28 9 a0).bind fun _ =>
  (s_X11_detNow a0  q28).bind fun q30 =>
  (if w32 q30.1 = 0 then
  some (.inl (x2, (x8 + 1), q30.2))
  else
  (ck q30.2 9 a0).bind fun _ =>
  (s_X11_mixes a0 40 42 q30.2).bind fun q33 =>
  (ck q33 9 a0).bind fun _ =>
  (s_X11_isLike a0 41 42 q33).bind fun q35 =>
  (if w32 q35.1 = 0 then
  some (.inl (x2, (x8 + 1), q35.2))
  else
  (if w32 x1 = 0 then
  some (.inl ((x2 + 1), (x8 + 1), q35.2))
  else
  ((((s_X11_tried_b168 x5 x6 x7 x8 q35.2).map Sum.inr).map Sum.inr).map Sum.inr).map Sum.inr)))
  else
  some (.inl (x2, (x8 + 1), q22.2))))
theorem w_X11_tried_l90_st {Z : Zt} {fin : Int × Me} {w : ((Int × Int × Me) ⊕ ((Int × Int × Me) ⊕ ((Int × Int × Me) ⊕ ((Int × Int × Me) ⊕ (Int × Me)))))} (C : CX Z yX11_tried cX11_tried (some .int) 6 9) {a0 : Nat} {x1 : Int} {x2 : Int} {x3 : Int} {x4 : Int} {x5 : Int} {x6 : Int} {x7 : Int} {x8 : Int} {μ : Me} (h : s_X11_tried_l90_st a0 x1 x2 x3 x4 x5 x6 x7 x8 μ = some w) (hK : (Sum.elim (fun s : Int × Int × Me => WL Z (QN Z (some (vI fin.1)) fin.2) s.2.2 90 [(0, vO a0), (1, vI x1), (2, vI s.1), (3, vI x3), (4, vI x4), (5, vI x5), (6, vI x6), (7, vI x7), (8, vI s.2.1)] []) (Sum.elim (fun s : Int × Int × Me => WL Z (QN Z (some (vI fin.1)) fin.2) s.2.2 58 [(0, vO a0), (1, vI x1), (2, vI s.1), (3, vI x3), (4, vI x4), (5, vI x5), (6, vI x6), (7, vI s.2.1)] []) (Sum.elim (fun s : Int × Int × Me => WL Z (QN Z (some (vI fin.1)) fin.2) s.2.2 46 [(0, vO a0), (1, vI x1), (2, vI s.1), (3, vI x3), (4, vI x4), (5, vI x5), (6, vI s.2.1)] []) (Sum.elim (fun s : Int × Int × Me => WL Z (QN Z (some (vI fin.1)) fin.2) s.2.2 34 [(0, vO a0), (1, vI x1), (2, vI s.1), (3, vI x3), (4, vI x4), (5, vI s.2.1)] []) (fun r : Int × Me => r = fin))))) w) : WL Z (QN Z (some (vI fin.1)) fin.2) μ 90 [(0, vO a0), (1, vI x1), (2, vI x2), (3, vI x3), (4, vI x4), (5, vI x5), (6, vI x6), (7, vI x7), (8, vI x8)] [] := by
  unfold s_X11_tried_l90_st at h
  refine r_iload C 8 dX11_tried_90 rfl ?_
  refine r_aload_n C 0 dX11_tried_92 rfl rfl ?_
  obtain ⟨u23, eu23, h⟩ := bs h
  obtain ⟨q22, eq22, h⟩ := bs h
  refine r_callV C (As := []) (b := a0) (rest := [vI x8]) (st1 := [vI q22.1, vI x8]) (v := some (vI q22.1)) (r := (RX11, TX11, 38)) (ci := 9) rfl eu23 (m_X11_p C.tr eq22) (lw_V q1522 q1524 qs51 q133 q1525) rfl hdX11_p rfl rfl (Nat.le_of_ble_eq_true rfl) ⟨by decide, by decide⟩ dX11_tried_93 rfl ?_
  refine r_icmp_ge C dX11_tried_96 (tgt := 198) (by decide) (fun c24 => ?_) (fun c24 => ?_)
  · have h := it_ h c24
    refine r_iinc C 7 [(7, vI (x7 + 1)), (0, vO a0), (1, vI x1), (2, vI x2), (3, vI x3), (4, vI x4), (5, vI x5), (6, vI x6), (8, vI x8)] dX11_tried_198 rfl (by decide) rfl ?_
    refine r_goto C dX11_tried_201 (tgt := 58) (by decide) ?_
    cases h
    refine r_sub [1, 2, 3, 4, 5, 6, 7, 0] rfl ?_
    exact hK
  · have h := ie_ h c24
    refine r_aload_n C 0 dX11_tried_99 rfl rfl ?_
    obtain ⟨v25, ev25, h⟩ := bs h
    refine r_getR C (c := 9) (r := (RX11, TX11, 38)) rfl 25 (by decide) rfl ev25 q1338 dX11_tried_100 ?_
    refine r_bipush C dX11_tried_103 (by decide) ?_
    refine r_iload C 6 dX11_tried_105 rfl ?_
    refine r_imul C dX11_tried_107 ?_
    refine r_iload C 8 dX11_tried_108 rfl ?_
    refine r_iadd C dX11_tried_110 ?_
    obtain ⟨v26, ev26, h⟩ := bs h
    refine r_iald C ev26 dX11_tried_111 ?_
    refine r_iload C 4 dX11_tried_112 rfl ?_
    refine r_icmp_eq C dX11_tried_114 (tgt := 120) (by decide) (fun c27 => ?_) (fun c27 => ?_)
    · have h := it_ h c27
      refine r_aload_n C 0 dX11_tried_120 rfl rfl ?_
      refine r_iload C 5 dX11_tried_121 rfl ?_
      refine r_iload C 6 dX11_tried_123 rfl ?_
      refine r_iload C 7 dX11_tried_125 rfl ?_
      refine r_iload C 8 dX11_tried_127 rfl ?_
      obtain ⟨u29, eu29, h⟩ := bs h
      obtain ⟨q28, eq28, h⟩ := bs h
      refine r_callV C (As := [vI x5, vI x6, vI x7, vI x8]) (b := a0) (rest := []) (st1 := []) (v := none) (r := (RX11, TX11, 38)) (ci := 9) rfl eu29 (m_X11_takesTable C.tr eq28) (lw_V q1533 q1535 qs52 q133 q1536) rfl hdX11_takesTable rfl rfl (Nat.le_of_ble_eq_true rfl) ⟨by decide, by decide⟩ dX11_tried_129 rfl ?_
      refine r_aload_n C 0 dX11_tried_132 rfl rfl ?_
      obtain ⟨u31, eu31, h⟩ := bs h
      obtain ⟨q30, eq30, h⟩ := bs h
      refine r_callV C (As := []) (b := a0) (rest := []) (st1 := [vI q30.1]) (v := some (vI q30.1)) (r := (RX11, TX11, 38)) (ci := 9) rfl eu31 (m_X11_detNow C.tr eq30) (lw_V q1537 q1539 qs53 q133 q1540) rfl hdX11_detNow rfl rfl (Nat.le_of_ble_eq_true rfl) ⟨by decide, by decide⟩ dX11_tried_133 rfl ?_
      refine r_if_ne C dX11_tried_136 (tgt := 142) (by decide) (fun c32 => ?_) (fun c32 => ?_)
      · have h := ie_ h c32
        refine r_aload_n C 0 dX11_tried_142 rfl rfl ?_
        refine r_bipush C dX11_tried_143 (by decide) ?_
        refine r_bipush C dX11_tried_145 (by decide) ?_
        obtain ⟨u34, eu34, h⟩ := bs h
        obtain ⟨q33, eq33, h⟩ := bs h
        refine r_callV C (As := [vI 40, vI 42]) (b := a0) (rest := []) (st1 := []) (v := none) (r := (RX11, TX11, 38)) (ci := 9) rfl eu34 (m_X11_mixes C.tr eq33) (lw_V q1641 q1643 qs72 q133 q1644) rfl hdX11_mixes rfl rfl (Nat.le_of_ble_eq_true rfl) ⟨by decide, by decide⟩ dX11_tried_147 rfl ?_
        refine r_aload_n C 0 dX11_tried_150 rfl rfl ?_
        refine r_bipush C dX11_tried_151 (by decide) ?_
        refine r_bipush C dX11_tried_153 (by decide) ?_
        obtain ⟨u36, eu36, h⟩ := bs h
        obtain ⟨q35, eq35, h⟩ := bs h
        refine r_callV C (As := [vI 41, vI 42]) (b := a0) (rest := []) (st1 := [vI q35.1]) (v := some (vI q35.1)) (r := (RX11, TX11, 38)) (ci := 9) rfl eu36 (m_X11_isLike C.tr eq35) (lw_V q1653 q1655 qs75 q133 q1656) rfl hdX11_isLike rfl rfl (Nat.le_of_ble_eq_true rfl) ⟨by decide, by decide⟩ dX11_tried_155 rfl ?_
        refine r_if_ne C dX11_tried_158 (tgt := 164) (by decide) (fun c37 => ?_) (fun c37 => ?_)
        · have h := ie_ h c37
          refine r_iload_n C 1 dX11_tried_164 rfl rfl ?_
          refine r_if_eq C dX11_tried_165 (tgt := 189) (by decide) (fun c38 => ?_) (fun c38 => ?_)
          · have h := it_ h c38
            refine r_iinc C 2 [(2, vI (x2 + 1)), (0, vO a0), (1, vI x1), (3, vI x3), (4, vI x4), (5, vI x5), (6, vI x6), (7, vI x7), (8, vI x8)] dX11_tried_189 rfl (by decide) rfl ?_
            refine r_iinc C 8 [(8, vI (x8 + 1)), (2, vI (x2 + 1)), (0, vO a0), (1, vI x1), (3, vI x3), (4, vI x4), (5, vI x5), (6, vI x6), (7, vI x7)] dX11_tried_192 rfl (by decide) rfl ?_
            refine r_goto C dX11_tried_195 (tgt := 90) (by decide) ?_
            cases h
            refine r_sub [2, 3, 1, 4, 5, 6, 7, 8, 0] rfl ?_
            exact hK
          · have h := ie_ h c38
            obtain ⟨z, hz, ez⟩ := ms_ h; clear h; subst ez; have h := hz; clear hz
            obtain ⟨z, hz, ez⟩ := ms_ h; clear h; subst ez; have h := hz; clear hz
            obtain ⟨z, hz, ez⟩ := ms_ h; clear h; subst ez; have h := hz; clear hz
            obtain ⟨z, hz, ez⟩ := ms_ h; clear h; subst ez; have h := hz; clear hz
            refine r_sub [5, 6, 7, 8] rfl ?_
            exact w_X11_tried_b168 (fin := fin) C h hK
        · have h := it_ h c37
          refine r_goto C dX11_tried_161 (tgt := 192) (by decide) ?_
          refine r_iinc C 8 [(8, vI (x8 + 1)), (0, vO a0), (1, vI x1), (2, vI x2), (3, vI x3), (4, vI x4), (5, vI x5), (6, vI x6), (7, vI x7)] dX11_tried_192 rfl (by decide) rfl ?_
          refine r_goto C dX11_tried_195 (tgt := 90) (by decide) ?_
          cases h
          refine r_sub [1, 2, 3, 4, 5, 6, 7, 8, 0] rfl ?_
          exact hK
      · have h := it_ h c32
        refine r_goto C dX11_tried_139 (tgt := 192) (by decide) ?_
        refine r_iinc C 8 [(8, vI (x8 + 1)), (0, vO a0), (1, vI x1), (2, vI x2), (3, vI x3), (4, vI x4), (5, vI x5), (6, vI x6), (7, vI x7)] dX11_tried_192 rfl (by decide) rfl ?_
        refine r_goto C dX11_tried_195 (tgt := 90) (by decide) ?_
        cases h
        refine r_sub [1, 2, 3, 4, 5, 6, 7, 8, 0] rfl ?_
        exact hK
    · have h := ie_ h c27
      refine r_goto C dX11_tried_117 (tgt := 192) (by decide) ?_
      refine r_iinc C 8 [(8, vI (x8 + 1)), (0, vO a0), (1, vI x1), (2, vI x2), (3, vI x3), (4, vI x4), (5, vI x5), (6, vI x6), (7, vI x7)] dX11_tried_192 rfl (by decide) rfl ?_
      refine r_goto C dX11_tried_195 (tgt := 90) (by decide) ?_
      cases h
      refine r_sub [1, 2, 3, 4, 5, 6, 7, 8, 0] rfl ?_
      exact hK
noncomputable def s_X11_tried_l90 (a0 : Nat) (x1 : Int) (x2 : Int) (x3 : Int) (x4 : Int) (x5 : Int) (x6 : Int) (x7 : Int) (x8 : Int) (μ : Me) : Option ((Int × Int × Me) ⊕ ((Int × Int × Me) ⊕ ((Int × Int × Me) ⊕ (Int × Me)))) :=
  whileO (fun s : Int × Int × Me => s_X11_tried_l90_st a0 x1 s.1 x3 x4 x5 x6 x7 s.2.1 s.2.2) (x2, x8, μ)
theorem e_X11_tried_l90 (a0 : Nat) (x1 : Int) (x2 : Int) (x3 : Int) (x4 : Int) (x5 : Int) (x6 : Int) (x7 : Int) (x8 : Int) (μ : Me) : s_X11_tried_l90 a0 x1 x2 x3 x4 x5 x6 x7 x8 μ = (s_X11_tried_l90_st a0 x1 x2 x3 x4 x5 x6 x7 x8 μ).bind fun x => x.elim (fun s : Int × Int × Me => s_X11_tried_l90 a0 x1 s.1 x3 x4 x5 x6 x7 s.2.1 s.2.2) some := whileO_eq _ _
theorem w_X11_tried_l90 {Z : Zt} {fin : Int × Me} {w : ((Int × Int × Me) ⊕ ((Int × Int × Me) ⊕ ((Int × Int × Me) ⊕ (Int × Me))))} (C : CX Z yX11_tried cX11_tried (some .int) 6 9) {a0 : Nat} {x1 : Int} {x2 : Int} {x3 : Int} {x4 : Int} {x5 : Int} {x6 : Int} {x7 : Int} {x8 : Int} {μ : Me} (h : s_X11_tried_l90 a0 x1 x2 x3 x4 x5 x6 x7 x8 μ = some w) (hK : (Sum.elim (fun s : Int × Int × Me => WL Z (QN Z (some (vI fin.1)) fin.2) s.2.2 58 [(0, vO a0), (1, vI x1), (2, vI s.1), (3, vI x3), (4, vI x4), (5, vI x5), (6, vI x6), (7, vI s.2.1)] []) (Sum.elim (fun s : Int × Int × Me => WL Z (QN Z (some (vI fin.1)) fin.2) s.2.2 46 [(0, vO a0), (1, vI x1), (2, vI s.1), (3, vI x3), (4, vI x4), (5, vI x5), (6, vI s.2.1)] []) (Sum.elim (fun s : Int × Int × Me => WL Z (QN Z (some (vI fin.1)) fin.2) s.2.2 34 [(0, vO a0), (1, vI x1), (2, vI s.1), (3, vI x3), (4, vI x4), (5, vI s.2.1)] []) (fun r : Int × Me => r = fin)))) w) : WL Z (QN Z (some (vI fin.1)) fin.2) μ 90 [(0, vO a0), (1, vI x1), (2, vI x2), (3, vI x3), (4, vI x4), (5, vI x5), (6, vI x6), (7, vI x7), (8, vI x8)] [] := by
  refine whileO_walk (w := w) (fun s : Int × Int × Me => WL Z (QN Z (some (vI fin.1)) fin.2) s.2.2 90 [(0, vO a0), (1, vI x1), (2, vI s.1), (3, vI x3), (4, vI x4), (5, vI x5), (6, vI x6), (7, vI x7), (8, vI s.2.1)] []) (fun s v h2 hi hr => ?_) (x2, x8, μ) h
  refine w_X11_tried_l90_st (fin := fin) C h2 ?_
  cases v with
  | inl s2 => exact hi s2 rfl
  | inr r => have e := hr r rfl; subst e; exact hK
noncomputable def s_X11_tried_l58_st (a0 : Nat) (x1 : Int) (x2 : Int) (x3 : Int) (x4 : Int) (x5 : Int) (x6 : Int) (x7 : Int) (μ : Me) : Option ((Int × Int × Me) ⊕ ((Int × Int × Me) ⊕ ((Int × Int × Me) ⊕ (Int × Me)))) :=
  (ck μ 9 a0).bind fun _ =>
  (s_X11_p a0  μ).bind fun q16 =>
  (if w32 q16.1 ≤ w32 x7 then
  some (.inr (.inl (x2, (x6 + 1), q16.2)))
  else
  (gR q16.2 9 a0 25).bind fun v19 =>
  (aI q16.2 101 v19 ((19 * x5) + x7)).bind fun v20 =>
  (if w32 v20 = w32 x3 then
  s_X11_tried_l90 a0 x1 x2 x3 x4 x5 x6 x7 0 q16.2
  else
  some (.inl (x2, (x7 + 1), q16.2))))
theorem w_X11_tried_l58_st {Z : Zt} {fin : Int × Me} {w : ((Int × Int × Me) ⊕ ((Int × Int × Me) ⊕ ((Int × Int × Me) ⊕ (Int × Me))))} (C : CX Z yX11_tried cX11_tried (some .int) 6 9) {a0 : Nat} {x1 : Int} {x2 : Int} {x3 : Int} {x4 : Int} {x5 : Int} {x6 : Int} {x7 : Int} {μ : Me} (h : s_X11_tried_l58_st a0 x1 x2 x3 x4 x5 x6 x7 μ = some w) (hK : (Sum.elim (fun s : Int × Int × Me => WL Z (QN Z (some (vI fin.1)) fin.2) s.2.2 58 [(0, vO a0), (1, vI x1), (2, vI s.1), (3, vI x3), (4, vI x4), (5, vI x5), (6, vI x6), (7, vI s.2.1)] []) (Sum.elim (fun s : Int × Int × Me => WL Z (QN Z (some (vI fin.1)) fin.2) s.2.2 46 [(0, vO a0), (1, vI x1), (2, vI s.1), (3, vI x3), (4, vI x4), (5, vI x5), (6, vI s.2.1)] []) (Sum.elim (fun s : Int × Int × Me => WL Z (QN Z (some (vI fin.1)) fin.2) s.2.2 34 [(0, vO a0), (1, vI x1), (2, vI s.1), (3, vI x3), (4, vI x4), (5, vI s.2.1)] []) (fun r : Int × Me => r = fin)))) w) : WL Z (QN Z (some (vI fin.1)) fin.2) μ 58 [(0, vO a0), (1, vI x1), (2, vI x2), (3, vI x3), (4, vI x4), (5, vI x5), (6, vI x6), (7, vI x7)] [] := by
  unfold s_X11_tried_l58_st at h
  refine r_iload C 7 dX11_tried_58 rfl ?_
  refine r_aload_n C 0 dX11_tried_60 rfl rfl ?_
  obtain ⟨u17, eu17, h⟩ := bs h
  obtain ⟨q16, eq16, h⟩ := bs h
  refine r_callV C (As := []) (b := a0) (rest := [vI x7]) (st1 := [vI q16.1, vI x7]) (v := some (vI q16.1)) (r := (RX11, TX11, 38)) (ci := 9) rfl eu17 (m_X11_p C.tr eq16) (lw_V q1522 q1524 qs51 q133 q1525) rfl hdX11_p rfl rfl (Nat.le_of_ble_eq_true rfl) ⟨by decide, by decide⟩ dX11_tried_61 rfl ?_
  refine r_icmp_ge C dX11_tried_64 (tgt := 204) (by decide) (fun c18 => ?_) (fun c18 => ?_)
  · have h := it_ h c18
    refine r_iinc C 6 [(6, vI (x6 + 1)), (0, vO a0), (1, vI x1), (2, vI x2), (3, vI x3), (4, vI x4), (5, vI x5), (7, vI x7)] dX11_tried_204 rfl (by decide) rfl ?_
    refine r_goto C dX11_tried_207 (tgt := 46) (by decide) ?_
    cases h
    refine r_sub [1, 2, 3, 4, 5, 6, 0] rfl ?_
    exact hK
  · have h := ie_ h c18
    refine r_aload_n C 0 dX11_tried_67 rfl rfl ?_
    obtain ⟨v19, ev19, h⟩ := bs h
    refine r_getR C (c := 9) (r := (RX11, TX11, 38)) rfl 25 (by decide) rfl ev19 q1338 dX11_tried_68 ?_
    refine r_bipush C dX11_tried_71 (by decide) ?_
    refine r_iload C 5 dX11_tried_73 rfl ?_
    refine r_imul C dX11_tried_75 ?_
    refine r_iload C 7 dX11_tried_76 rfl ?_
    refine r_iadd C dX11_tried_78 ?_
    obtain ⟨v20, ev20, h⟩ := bs h
    refine r_iald C ev20 dX11_tried_79 ?_
    refine r_iload_n C 3 dX11_tried_80 rfl rfl ?_
    refine r_icmp_eq C dX11_tried_81 (tgt := 87) (by decide) (fun c21 => ?_) (fun c21 => ?_)
    · have h := it_ h c21
      refine r_iconst C dX11_tried_87 ?_
      refine r_istore C [(8, vI 0), (0, vO a0), (1, vI x1), (2, vI x2), (3, vI x3), (4, vI x4), (5, vI x5), (6, vI x6), (7, vI x7)] dX11_tried_88 (by decide) rfl ?_
      refine r_sub [1, 2, 3, 4, 5, 6, 7, 8, 0] rfl ?_
      exact w_X11_tried_l90 (fin := fin) C h hK
    · have h := ie_ h c21
      refine r_goto C dX11_tried_84 (tgt := 198) (by decide) ?_
      refine r_iinc C 7 [(7, vI (x7 + 1)), (0, vO a0), (1, vI x1), (2, vI x2), (3, vI x3), (4, vI x4), (5, vI x5), (6, vI x6)] dX11_tried_198 rfl (by decide) rfl ?_
      refine r_goto C dX11_tried_201 (tgt := 58) (by decide) ?_
      cases h
      refine r_sub [1, 2, 3, 4, 5, 6, 7, 0] rfl ?_
      exact hK
noncomputable def s_X11_tried_l58 (a0 : Nat) (x1 : Int) (x2 : Int) (x3 : Int) (x4 : Int) (x5 : Int) (x6 : Int) (x7 : Int) (μ : Me) : Option ((Int × Int × Me) ⊕ ((Int × Int × Me) ⊕ (Int × Me))) :=
  whileO (fun s : Int × Int × Me => s_X11_tried_l58_st a0 x1 s.1 x3 x4 x5 x6 s.2.1 s.2.2) (x2, x7, μ)
theorem e_X11_tried_l58 (a0 : Nat) (x1 : Int) (x2 : Int) (x3 : Int) (x4 : Int) (x5 : Int) (x6 : Int) (x7 : Int) (μ : Me) : s_X11_tried_l58 a0 x1 x2 x3 x4 x5 x6 x7 μ = (s_X11_tried_l58_st a0 x1 x2 x3 x4 x5 x6 x7 μ).bind fun x => x.elim (fun s : Int × Int × Me => s_X11_tried_l58 a0 x1 s.1 x3 x4 x5 x6 s.2.1 s.2.2) some := whileO_eq _ _
theorem w_X11_tried_l58 {Z : Zt} {fin : Int × Me} {w : ((Int × Int × Me) ⊕ ((Int × Int × Me) ⊕ (Int × Me)))} (C : CX Z yX11_tried cX11_tried (some .int) 6 9) {a0 : Nat} {x1 : Int} {x2 : Int} {x3 : Int} {x4 : Int} {x5 : Int} {x6 : Int} {x7 : Int} {μ : Me} (h : s_X11_tried_l58 a0 x1 x2 x3 x4 x5 x6 x7 μ = some w) (hK : (Sum.elim (fun s : Int × Int × Me => WL Z (QN Z (some (vI fin.1)) fin.2) s.2.2 46 [(0, vO a0), (1, vI x1), (2, vI s.1), (3, vI x3), (4, vI x4), (5, vI x5), (6, vI s.2.1)] []) (Sum.elim (fun s : Int × Int × Me => WL Z (QN Z (some (vI fin.1)) fin.2) s.2.2 34 [(0, vO a0), (1, vI x1), (2, vI s.1), (3, vI x3), (4, vI x4), (5, vI s.2.1)] []) (fun r : Int × Me => r = fin))) w) : WL Z (QN Z (some (vI fin.1)) fin.2) μ 58 [(0, vO a0), (1, vI x1), (2, vI x2), (3, vI x3), (4, vI x4), (5, vI x5), (6, vI x6), (7, vI x7)] [] := by
  refine whileO_walk (w := w) (fun s : Int × Int × Me => WL Z (QN Z (some (vI fin.1)) fin.2) s.2.2 58 [(0, vO a0), (1, vI x1), (2, vI s.1), (3, vI x3), (4, vI x4), (5, vI x5), (6, vI x6), (7, vI s.2.1)] []) (fun s v h2 hi hr => ?_) (x2, x7, μ) h
  refine w_X11_tried_l58_st (fin := fin) C h2 ?_
  cases v with
  | inl s2 => exact hi s2 rfl
  | inr r => have e := hr r rfl; subst e; exact hK
noncomputable def s_X11_tried_l46_st (a0 : Nat) (x1 : Int) (x2 : Int) (x3 : Int) (x4 : Int) (x5 : Int) (x6 : Int) (μ : Me) : Option ((Int × Int × Me) ⊕ ((Int × Int × Me) ⊕ (Int × Me))) :=
  (ck μ 9 a0).bind fun _ =>
  (s_X11_p a0  μ).bind fun q13 =>
  (if w32 q13.1 ≤ w32 x6 then
  some (.inr (.inl (x2, (x5 + 1), q13.2)))
  else
  s_X11_tried_l58 a0 x1 x2 x3 x4 x5 x6 0 q13.2)
theorem w_X11_tried_l46_st {Z : Zt} {fin : Int × Me} {w : ((Int × Int × Me) ⊕ ((Int × Int × Me) ⊕ (Int × Me)))} (C : CX Z yX11_tried cX11_tried (some .int) 6 9) {a0 : Nat} {x1 : Int} {x2 : Int} {x3 : Int} {x4 : Int} {x5 : Int} {x6 : Int} {μ : Me} (h : s_X11_tried_l46_st a0 x1 x2 x3 x4 x5 x6 μ = some w) (hK : (Sum.elim (fun s : Int × Int × Me => WL Z (QN Z (some (vI fin.1)) fin.2) s.2.2 46 [(0, vO a0), (1, vI x1), (2, vI s.1), (3, vI x3), (4, vI x4), (5, vI x5), (6, vI s.2.1)] []) (Sum.elim (fun s : Int × Int × Me => WL Z (QN Z (some (vI fin.1)) fin.2) s.2.2 34 [(0, vO a0), (1, vI x1), (2, vI s.1), (3, vI x3), (4, vI x4), (5, vI s.2.1)] []) (fun r : Int × Me => r = fin))) w) : WL Z (QN Z (some (vI fin.1)) fin.2) μ 46 [(0, vO a0), (1, vI x1), (2, vI x2), (3, vI x3), (4, vI x4), (5, vI x5), (6, vI x6)] [] := by
  unfold s_X11_tried_l46_st at h
  refine r_iload C 6 dX11_tried_46 rfl ?_
  refine r_aload_n C 0 dX11_tried_48 rfl rfl ?_
  obtain ⟨u14, eu14, h⟩ := bs h
  obtain ⟨q13, eq13, h⟩ := bs h
  refine r_callV C (As := []) (b := a0) (rest := [vI x6]) (st1 := [vI q13.1, vI x6]) (v := some (vI q13.1)) (r := (RX11, TX11, 38)) (ci := 9) rfl eu14 (m_X11_p C.tr eq13) (lw_V q1522 q1524 qs51 q133 q1525) rfl hdX11_p rfl rfl (Nat.le_of_ble_eq_true rfl) ⟨by decide, by decide⟩ dX11_tried_49 rfl ?_
  refine r_icmp_ge C dX11_tried_52 (tgt := 210) (by decide) (fun c15 => ?_) (fun c15 => ?_)
  · have h := it_ h c15
    refine r_iinc C 5 [(5, vI (x5 + 1)), (0, vO a0), (1, vI x1), (2, vI x2), (3, vI x3), (4, vI x4), (6, vI x6)] dX11_tried_210 rfl (by decide) rfl ?_
    refine r_goto C dX11_tried_213 (tgt := 34) (by decide) ?_
    cases h
    refine r_sub [1, 2, 3, 4, 5, 0] rfl ?_
    exact hK
  · have h := ie_ h c15
    refine r_iconst C dX11_tried_55 ?_
    refine r_istore C [(7, vI 0), (0, vO a0), (1, vI x1), (2, vI x2), (3, vI x3), (4, vI x4), (5, vI x5), (6, vI x6)] dX11_tried_56 (by decide) rfl ?_
    refine r_sub [1, 2, 3, 4, 5, 6, 7, 0] rfl ?_
    exact w_X11_tried_l58 (fin := fin) C h hK
noncomputable def s_X11_tried_l46 (a0 : Nat) (x1 : Int) (x2 : Int) (x3 : Int) (x4 : Int) (x5 : Int) (x6 : Int) (μ : Me) : Option ((Int × Int × Me) ⊕ (Int × Me)) :=
  whileO (fun s : Int × Int × Me => s_X11_tried_l46_st a0 x1 s.1 x3 x4 x5 s.2.1 s.2.2) (x2, x6, μ)
theorem e_X11_tried_l46 (a0 : Nat) (x1 : Int) (x2 : Int) (x3 : Int) (x4 : Int) (x5 : Int) (x6 : Int) (μ : Me) : s_X11_tried_l46 a0 x1 x2 x3 x4 x5 x6 μ = (s_X11_tried_l46_st a0 x1 x2 x3 x4 x5 x6 μ).bind fun x => x.elim (fun s : Int × Int × Me => s_X11_tried_l46 a0 x1 s.1 x3 x4 x5 s.2.1 s.2.2) some := whileO_eq _ _
theorem w_X11_tried_l46 {Z : Zt} {fin : Int × Me} {w : ((Int × Int × Me) ⊕ (Int × Me))} (C : CX Z yX11_tried cX11_tried (some .int) 6 9) {a0 : Nat} {x1 : Int} {x2 : Int} {x3 : Int} {x4 : Int} {x5 : Int} {x6 : Int} {μ : Me} (h : s_X11_tried_l46 a0 x1 x2 x3 x4 x5 x6 μ = some w) (hK : (Sum.elim (fun s : Int × Int × Me => WL Z (QN Z (some (vI fin.1)) fin.2) s.2.2 34 [(0, vO a0), (1, vI x1), (2, vI s.1), (3, vI x3), (4, vI x4), (5, vI s.2.1)] []) (fun r : Int × Me => r = fin)) w) : WL Z (QN Z (some (vI fin.1)) fin.2) μ 46 [(0, vO a0), (1, vI x1), (2, vI x2), (3, vI x3), (4, vI x4), (5, vI x5), (6, vI x6)] [] := by
  refine whileO_walk (w := w) (fun s : Int × Int × Me => WL Z (QN Z (some (vI fin.1)) fin.2) s.2.2 46 [(0, vO a0), (1, vI x1), (2, vI s.1), (3, vI x3), (4, vI x4), (5, vI x5), (6, vI s.2.1)] []) (fun s v h2 hi hr => ?_) (x2, x6, μ) h
  refine w_X11_tried_l46_st (fin := fin) C h2 ?_
  cases v with
  | inl s2 => exact hi s2 rfl
  | inr r => have e := hr r rfl; subst e; exact hK
noncomputable def s_X11_tried_l34_st (a0 : Nat) (x1 : Int) (x2 : Int) (x3 : Int) (x4 : Int) (x5 : Int) (μ : Me) : Option ((Int × Int × Me) ⊕ (Int × Me)) :=
  (ck μ 9 a0).bind fun _ =>
  (s_X11_p a0  μ).bind fun q9 =>
  (if w32 q9.1 ≤ w32 x5 then
  (s_X11_tried_b216 x1 x2 q9.2).map Sum.inr
  else
  s_X11_tried_l46 a0 x1 x2 x3 x4 x5 0 q9.2)
theorem w_X11_tried_l34_st {Z : Zt} {fin : Int × Me} {w : ((Int × Int × Me) ⊕ (Int × Me))} (C : CX Z yX11_tried cX11_tried (some .int) 6 9) {a0 : Nat} {x1 : Int} {x2 : Int} {x3 : Int} {x4 : Int} {x5 : Int} {μ : Me} (h : s_X11_tried_l34_st a0 x1 x2 x3 x4 x5 μ = some w) (hK : (Sum.elim (fun s : Int × Int × Me => WL Z (QN Z (some (vI fin.1)) fin.2) s.2.2 34 [(0, vO a0), (1, vI x1), (2, vI s.1), (3, vI x3), (4, vI x4), (5, vI s.2.1)] []) (fun r : Int × Me => r = fin)) w) : WL Z (QN Z (some (vI fin.1)) fin.2) μ 34 [(0, vO a0), (1, vI x1), (2, vI x2), (3, vI x3), (4, vI x4), (5, vI x5)] [] := by
  unfold s_X11_tried_l34_st at h
  refine r_iload C 5 dX11_tried_34 rfl ?_
  refine r_aload_n C 0 dX11_tried_36 rfl rfl ?_
  obtain ⟨u10, eu10, h⟩ := bs h
  obtain ⟨q9, eq9, h⟩ := bs h
  refine r_callV C (As := []) (b := a0) (rest := [vI x5]) (st1 := [vI q9.1, vI x5]) (v := some (vI q9.1)) (r := (RX11, TX11, 38)) (ci := 9) rfl eu10 (m_X11_p C.tr eq9) (lw_V q1522 q1524 qs51 q133 q1525) rfl hdX11_p rfl rfl (Nat.le_of_ble_eq_true rfl) ⟨by decide, by decide⟩ dX11_tried_37 rfl ?_
  refine r_icmp_ge C dX11_tried_40 (tgt := 216) (by decide) (fun c11 => ?_) (fun c11 => ?_)
  · have h := it_ h c11
    obtain ⟨z, hz, ez⟩ := ms_ h; clear h; subst ez; have h := hz; clear hz
    refine r_sub [1, 2] rfl ?_
    exact w_X11_tried_b216 (fin := fin) C h hK
  · have h := ie_ h c11
    refine r_iconst C dX11_tried_43 ?_
    refine r_istore C [(6, vI 0), (0, vO a0), (1, vI x1), (2, vI x2), (3, vI x3), (4, vI x4), (5, vI x5)] dX11_tried_44 (by decide) rfl ?_
    refine r_sub [1, 2, 3, 4, 5, 6, 0] rfl ?_
    exact w_X11_tried_l46 (fin := fin) C h hK
noncomputable def s_X11_tried_l34 (a0 : Nat) (x1 : Int) (x2 : Int) (x3 : Int) (x4 : Int) (x5 : Int) (μ : Me) : Option (Int × Me) :=
  whileO (fun s : Int × Int × Me => s_X11_tried_l34_st a0 x1 s.1 x3 x4 s.2.1 s.2.2) (x2, x5, μ)
theorem e_X11_tried_l34 (a0 : Nat) (x1 : Int) (x2 : Int) (x3 : Int) (x4 : Int) (x5 : Int) (μ : Me) : s_X11_tried_l34 a0 x1 x2 x3 x4 x5 μ = (s_X11_tried_l34_st a0 x1 x2 x3 x4 x5 μ).bind fun x => x.elim (fun s : Int × Int × Me => s_X11_tried_l34 a0 x1 s.1 x3 x4 s.2.1 s.2.2) some := whileO_eq _ _
theorem w_X11_tried_l34 {Z : Zt} {fin : Int × Me} {w : (Int × Me)} (C : CX Z yX11_tried cX11_tried (some .int) 6 9) {a0 : Nat} {x1 : Int} {x2 : Int} {x3 : Int} {x4 : Int} {x5 : Int} {μ : Me} (h : s_X11_tried_l34 a0 x1 x2 x3 x4 x5 μ = some w) (hK : (fun r : Int × Me => r = fin) w) : WL Z (QN Z (some (vI fin.1)) fin.2) μ 34 [(0, vO a0), (1, vI x1), (2, vI x2), (3, vI x3), (4, vI x4), (5, vI x5)] [] := by
  refine whileO_walk (w := w) (fun s : Int × Int × Me => WL Z (QN Z (some (vI fin.1)) fin.2) s.2.2 34 [(0, vO a0), (1, vI x1), (2, vI s.1), (3, vI x3), (4, vI x4), (5, vI s.2.1)] []) (fun s v h2 hi hr => ?_) (x2, x5, μ) h
  refine w_X11_tried_l34_st (fin := fin) C h2 ?_
  cases v with
  | inl s2 => exact hi s2 rfl
  | inr r => have e := hr r rfl; subst e; exact hK
noncomputable def s_X11_tried (a0 : Nat) (x1 : Int) (μ : Me) : Option (Int × Me) :=
  (ck μ 9 a0).bind fun _ =>
  (s_X11_values a0 40 μ).bind fun q1 =>
  (ck q1 9 a0).bind fun _ =>
  (s_X11_of a0 41 0 q1).bind fun q3 =>
  (gR q3.2 9 a0 4).bind fun v5 =>
  (aI q3.2 101 v5 41).bind fun v6 =>
  (ck q3.2 9 a0).bind fun _ =>
  (s_X11_of a0 41 v6 q3.2).bind fun q7 =>
  s_X11_tried_l34 a0 x1 0 q3.1 q7.1 0 q7.2
theorem w_X11_tried {Z : Zt} {fin : Int × Me} {w : Int × Me} (C : CX Z yX11_tried cX11_tried (some .int) 6 9) {a0 : Nat} {x1 : Int} {μ : Me} (h : s_X11_tried a0 x1 μ = some w) (hK : w = fin) : WL Z (QN Z (some (vI fin.1)) fin.2) μ 0 [(0, vO a0), (1, vI x1)] [] := by
  unfold s_X11_tried at h
  refine r_iconst C dX11_tried_0 ?_
  refine r_istore_n C [(2, vI 0), (0, vO a0), (1, vI x1)] dX11_tried_1 rfl (by decide) rfl ?_
  refine r_aload_n C 1 dX11_tried_2 rfl rfl ?_
  refine r_bipush C dX11_tried_3 (by decide) ?_
  obtain ⟨u2, eu2, h⟩ := bs h
  obtain ⟨q1, eq1, h⟩ := bs h
  refine r_callV C (As := [vI 40]) (b := a0) (rest := []) (st1 := []) (v := none) (r := (RX11, TX11, 38)) (ci := 9) rfl eu2 (m_X11_values C.tr eq1) (lw_V q1815 q1817 qs100 q133 q1818) rfl hdX11_values rfl rfl (Nat.le_of_ble_eq_true rfl) ⟨by decide, by decide⟩ dX11_tried_5 rfl ?_
  refine r_aload_n C 1 dX11_tried_8 rfl rfl ?_
  refine r_bipush C dX11_tried_9 (by decide) ?_
  refine r_iconst C dX11_tried_11 ?_
  obtain ⟨u4, eu4, h⟩ := bs h
  obtain ⟨q3, eq3, h⟩ := bs h
  refine r_callV C (As := [vI 41, vI 0]) (b := a0) (rest := []) (st1 := [vI q3.1]) (v := some (vI q3.1)) (r := (RX11, TX11, 38)) (ci := 9) rfl eu4 (m_X11_of C.tr eq3) (lw_V q1629 q1631 qs70 q133 q1632) rfl hdX11_of rfl rfl (Nat.le_of_ble_eq_true rfl) ⟨by decide, by decide⟩ dX11_tried_12 rfl ?_
  refine r_istore_n C [(3, vI q3.1), (2, vI 0), (0, vO a0), (1, vI x1)] dX11_tried_15 rfl (by decide) rfl ?_
  refine r_aload_n C 2 dX11_tried_16 rfl rfl ?_
  refine r_bipush C dX11_tried_17 (by decide) ?_
  refine r_aload_n C 2 dX11_tried_19 rfl rfl ?_
  obtain ⟨v5, ev5, h⟩ := bs h
  refine r_getR C (c := 9) (r := (RX11, TX11, 38)) rfl 4 (by decide) rfl ev5 q1317 dX11_tried_20 ?_
  refine r_bipush C dX11_tried_23 (by decide) ?_
  obtain ⟨v6, ev6, h⟩ := bs h
  refine r_iald C ev6 dX11_tried_25 ?_
  obtain ⟨u8, eu8, h⟩ := bs h
  obtain ⟨q7, eq7, h⟩ := bs h
  refine r_callV C (As := [vI 41, vI v6]) (b := a0) (rest := []) (st1 := [vI q7.1]) (v := some (vI q7.1)) (r := (RX11, TX11, 38)) (ci := 9) rfl eu8 (m_X11_of C.tr eq7) (lw_V q1629 q1631 qs70 q133 q1632) rfl hdX11_of rfl rfl (Nat.le_of_ble_eq_true rfl) ⟨by decide, by decide⟩ dX11_tried_26 rfl ?_
  refine r_istore C [(4, vI q7.1), (3, vI q3.1), (2, vI 0), (0, vO a0), (1, vI x1)] dX11_tried_29 (by decide) rfl ?_
  refine r_iconst C dX11_tried_31 ?_
  refine r_istore C [(5, vI 0), (4, vI q7.1), (3, vI q3.1), (2, vI 0), (0, vO a0), (1, vI x1)] dX11_tried_32 (by decide) rfl ?_
  refine r_sub [4, 5, 3, 2, 1, 0] rfl ?_
  exact w_X11_tried_l34 (fin := fin) C h hK
theorem hdX11_tried : zhd yX11_tried 1 := by decide +kernel
theorem m_X11_tried {l : Launch} {D : va_G} {b0 : Nat} (hl : l.stackTraces = false) {a0 : Nat} {x1 : Int} {μ : Me} {w : Int × Me} (h : s_X11_tried a0 x1 μ = some w) : MN l D b0 yX11_tried (ws_ yX11_tried cX11_tried 9 (some .int)) 6 [vO a0, vI x1] μ (some (vI w.1)) w.2 :=
  MN.of hl (by decide +kernel) (Nat.le_of_ble_eq_true rfl) (fun Z C _ _ => w_X11_tried C h rfl)
noncomputable def s_X11_sameOf (a0 : Nat) (x1 : Int) (x2 : Int) (μ : Me) : Option (Int × Me) :=
  (ck μ 9 a0).bind fun _ =>
  (s_X11_degreeOf a0 x1 μ).bind fun q1 =>
  (ck q1.2 9 a0).bind fun _ =>
  (s_X11_degreeOf a0 x2 q1.2).bind fun q3 =>
  (if w32 q1.1 = w32 q3.1 then
  (ck q3.2 9 a0).bind fun _ =>
  (s_X11_takes a0 40 x1 q3.2).bind fun q6 =>
  (ck q6 9 a0).bind fun _ =>
  (s_X11_takes a0 41 x2 q6).bind fun q8 =>
  (ck q8 9 a0).bind fun _ =>
  (s_X11_isNought a0 40 q8).bind fun q10 =>
  (ck q10.2 9 a0).bind fun _ =>
  (s_X11_isNought a0 41 q10.2).bind fun q12 =>
  (if w32 q10.1 = w32 q12.1 then
  (ck q12.2 9 a0).bind fun _ =>
  (s_X11_tried a0 1 q12.2).bind fun q15 =>
  some (q15.1, q15.2)
  else
  some ((-1), q12.2))
  else
  some ((-1), q3.2))
theorem w_X11_sameOf {Z : Zt} {fin : Int × Me} {w : Int × Me} (C : CX Z yX11_sameOf cX11_sameOf (some .int) 7 3) {a0 : Nat} {x1 : Int} {x2 : Int} {μ : Me} (h : s_X11_sameOf a0 x1 x2 μ = some w) (hK : w = fin) : WL Z (QN Z (some (vI fin.1)) fin.2) μ 0 [(0, vO a0), (1, vI x1), (2, vI x2)] [] := by
  unfold s_X11_sameOf at h
  refine r_aload_n C 0 dX11_sameOf_0 rfl rfl ?_
  refine r_iload_n C 1 dX11_sameOf_1 rfl rfl ?_
  obtain ⟨u2, eu2, h⟩ := bs h
  obtain ⟨q1, eq1, h⟩ := bs h
  refine r_callV C (As := [vI x1]) (b := a0) (rest := []) (st1 := [vI q1.1]) (v := some (vI q1.1)) (r := (RX11, TX11, 38)) (ci := 9) rfl eu2 (m_X11_degreeOf C.tr eq1) (lw_V q1605 q1607 qs65 q133 q1608) rfl hdX11_degreeOf rfl rfl (Nat.le_of_ble_eq_true rfl) ⟨by decide, by decide⟩ dX11_sameOf_2 rfl ?_
  refine r_aload_n C 0 dX11_sameOf_5 rfl rfl ?_
  refine r_iload_n C 2 dX11_sameOf_6 rfl rfl ?_
  obtain ⟨u4, eu4, h⟩ := bs h
  obtain ⟨q3, eq3, h⟩ := bs h
  refine r_callV C (As := [vI x2]) (b := a0) (rest := [vI q1.1]) (st1 := [vI q3.1, vI q1.1]) (v := some (vI q3.1)) (r := (RX11, TX11, 38)) (ci := 9) rfl eu4 (m_X11_degreeOf C.tr eq3) (lw_V q1605 q1607 qs65 q133 q1608) rfl hdX11_degreeOf rfl rfl (Nat.le_of_ble_eq_true rfl) ⟨by decide, by decide⟩ dX11_sameOf_7 rfl ?_
  refine r_icmp_eq C dX11_sameOf_10 (tgt := 15) (by decide) (fun c5 => ?_) (fun c5 => ?_)
  · have h := it_ h c5
    refine r_aload_n C 0 dX11_sameOf_15 rfl rfl ?_
    refine r_bipush C dX11_sameOf_16 (by decide) ?_
    refine r_iload_n C 1 dX11_sameOf_18 rfl rfl ?_
    obtain ⟨u7, eu7, h⟩ := bs h
    obtain ⟨q6, eq6, h⟩ := bs h
    refine r_callV C (As := [vI 40, vI x1]) (b := a0) (rest := []) (st1 := []) (v := none) (r := (RX11, TX11, 38)) (ci := 9) rfl eu7 (m_X11_takes C.tr eq6) (lw_V q1617 q1619 qs67 q133 q1620) rfl hdX11_takes rfl rfl (Nat.le_of_ble_eq_true rfl) ⟨by decide, by decide⟩ dX11_sameOf_19 rfl ?_
    refine r_aload_n C 0 dX11_sameOf_22 rfl rfl ?_
    refine r_bipush C dX11_sameOf_23 (by decide) ?_
    refine r_iload_n C 2 dX11_sameOf_25 rfl rfl ?_
    obtain ⟨u9, eu9, h⟩ := bs h
    obtain ⟨q8, eq8, h⟩ := bs h
    refine r_callV C (As := [vI 41, vI x2]) (b := a0) (rest := []) (st1 := []) (v := none) (r := (RX11, TX11, 38)) (ci := 9) rfl eu9 (m_X11_takes C.tr eq8) (lw_V q1617 q1619 qs67 q133 q1620) rfl hdX11_takes rfl rfl (Nat.le_of_ble_eq_true rfl) ⟨by decide, by decide⟩ dX11_sameOf_26 rfl ?_
    refine r_aload_n C 0 dX11_sameOf_29 rfl rfl ?_
    refine r_bipush C dX11_sameOf_30 (by decide) ?_
    obtain ⟨u11, eu11, h⟩ := bs h
    obtain ⟨q10, eq10, h⟩ := bs h
    refine r_callV C (As := [vI 40]) (b := a0) (rest := []) (st1 := [vI q10.1]) (v := some (vI q10.1)) (r := (RX11, TX11, 38)) (ci := 9) rfl eu11 (m_X11_isNought C.tr eq10) (lw_V q1787 q1789 qs96 q133 q1790) rfl hdX11_isNought rfl rfl (Nat.le_of_ble_eq_true rfl) ⟨by decide, by decide⟩ dX11_sameOf_32 rfl ?_
    refine r_aload_n C 0 dX11_sameOf_35 rfl rfl ?_
    refine r_bipush C dX11_sameOf_36 (by decide) ?_
    obtain ⟨u13, eu13, h⟩ := bs h
    obtain ⟨q12, eq12, h⟩ := bs h
    refine r_callV C (As := [vI 41]) (b := a0) (rest := [vI q10.1]) (st1 := [vI q12.1, vI q10.1]) (v := some (vI q12.1)) (r := (RX11, TX11, 38)) (ci := 9) rfl eu13 (m_X11_isNought C.tr eq12) (lw_V q1787 q1789 qs96 q133 q1790) rfl hdX11_isNought rfl rfl (Nat.le_of_ble_eq_true rfl) ⟨by decide, by decide⟩ dX11_sameOf_38 rfl ?_
    refine r_icmp_eq C dX11_sameOf_41 (tgt := 48) (by decide) (fun c14 => ?_) (fun c14 => ?_)
    · have h := it_ h c14
      refine r_aload_n C 0 dX11_sameOf_48 rfl rfl ?_
      refine r_iconst C dX11_sameOf_49 ?_
      obtain ⟨u16, eu16, h⟩ := bs h
      obtain ⟨q15, eq15, h⟩ := bs h
      refine r_callV C (As := [vI 1]) (b := a0) (rest := []) (st1 := [vI q15.1]) (v := some (vI q15.1)) (r := (RX11, TX11, 38)) (ci := 9) rfl eu16 (m_X11_tried C.tr eq15) (lw_V q1811 q1813 qs99 q133 q1814) rfl hdX11_tried rfl rfl (Nat.le_of_ble_eq_true rfl) ⟨by decide, by decide⟩ dX11_sameOf_50 rfl ?_
      cases h
      exact r_iret C hK dX11_sameOf_53
    · have h := ie_ h c14
      refine r_iconst C dX11_sameOf_44 ?_
      refine r_goto C dX11_sameOf_45 (tgt := 53) (by decide) ?_
      cases h
      exact r_iret C hK dX11_sameOf_53
  · have h := ie_ h c5
    refine r_iconst C dX11_sameOf_13 ?_
    cases h
    exact r_iret C hK dX11_sameOf_14
theorem hdX11_sameOf : zhd yX11_sameOf 2 := by decide +kernel
theorem m_X11_sameOf {l : Launch} {D : va_G} {b0 : Nat} (hl : l.stackTraces = false) {a0 : Nat} {x1 : Int} {x2 : Int} {μ : Me} {w : Int × Me} (h : s_X11_sameOf a0 x1 x2 μ = some w) : MN l D b0 yX11_sameOf (ws_ yX11_sameOf cX11_sameOf 3 (some .int)) 7 [vO a0, vI x1, vI x2] μ (some (vI w.1)) w.2 :=
  MN.of hl (by decide +kernel) (Nat.le_of_ble_eq_true rfl) (fun Z C _ _ => w_X11_sameOf C h rfl)
noncomputable def s_X11_same_b27 (a0 : Nat) (x1 : Int) (x2 : Int) (t0 : Int) (t1 : Nat) (μ : Me) : Option (Int × Me) :=
  (ck μ 9 t1).bind fun _ =>
  (s_X11_throwsIf t1 t0 1 μ).bind fun q5 =>
  (if w32 q5.1 = 0 then
  (ck q5.2 9 a0).bind fun _ =>
  (s_X11_sameOf a0 x1 x2 q5.2).bind fun q8 =>
  some (q8.1, q8.2)
  else
  some (0, q5.2))
theorem w_X11_same_b27 {Z : Zt} {fin : Int × Me} {w : (Int × Me)} (C : CX Z yX11_same cX11_same (some .int) 8 3) {a0 : Nat} {x1 : Int} {x2 : Int} {t0 : Int} {t1 : Nat} {μ : Me} (h : s_X11_same_b27 a0 x1 x2 t0 t1 μ = some w) (hK : (fun r : Int × Me => r = fin) w) : WL Z (QN Z (some (vI fin.1)) fin.2) μ 27 [(0, vO a0), (1, vI x1), (2, vI x2)] [vI t0, vO t1] := by
  unfold s_X11_same_b27 at h
  refine r_iconst C dX11_same_27 ?_
  obtain ⟨u6, eu6, h⟩ := bs h
  obtain ⟨q5, eq5, h⟩ := bs h
  refine r_callV C (As := [vI t0, vI 1]) (b := t1) (rest := []) (st1 := [vI q5.1]) (v := some (vI q5.1)) (r := (RX11, TX11, 38)) (ci := 9) rfl eu6 (m_X11_throwsIf C.tr eq5) (lw_V q1500 q1502 qs49 q133 q1503) rfl hdX11_throwsIf rfl rfl (Nat.le_of_ble_eq_true rfl) ⟨by decide, by decide⟩ dX11_same_28 rfl ?_
  refine r_if_eq C dX11_same_31 (tgt := 38) (by decide) (fun c7 => ?_) (fun c7 => ?_)
  · have h := it_ h c7
    refine r_aload_n C 0 dX11_same_38 rfl rfl ?_
    refine r_iload_n C 1 dX11_same_39 rfl rfl ?_
    refine r_iload_n C 2 dX11_same_40 rfl rfl ?_
    obtain ⟨u9, eu9, h⟩ := bs h
    obtain ⟨q8, eq8, h⟩ := bs h
    refine r_callV C (As := [vI x1, vI x2]) (b := a0) (rest := []) (st1 := [vI q8.1]) (v := some (vI q8.1)) (r := (RX11, TX11, 38)) (ci := 9) rfl eu9 (m_X11_sameOf C.tr eq8) (lw_V q1807 q1809 qs98 q133 q1810) rfl hdX11_sameOf rfl rfl (Nat.le_of_ble_eq_true rfl) ⟨by decide, by decide⟩ dX11_same_41 rfl ?_
    cases h
    exact r_iret C hK dX11_same_44
  · have h := ie_ h c7
    refine r_iconst C dX11_same_34 ?_
    refine r_goto C dX11_same_35 (tgt := 44) (by decide) ?_
    cases h
    exact r_iret C hK dX11_same_44
noncomputable def s_X11_same_b22 (a0 : Nat) (x1 : Int) (x2 : Int) (t0 : Nat) (μ : Me) : Option (Int × Me) :=
  s_X11_same_b27 a0 x1 x2 1 t0 μ
theorem w_X11_same_b22 {Z : Zt} {fin : Int × Me} {w : (Int × Me)} (C : CX Z yX11_same cX11_same (some .int) 8 3) {a0 : Nat} {x1 : Int} {x2 : Int} {t0 : Nat} {μ : Me} (h : s_X11_same_b22 a0 x1 x2 t0 μ = some w) (hK : (fun r : Int × Me => r = fin) w) : WL Z (QN Z (some (vI fin.1)) fin.2) μ 22 [(0, vO a0), (1, vI x1), (2, vI x2)] [vO t0] := by
  unfold s_X11_same_b22 at h
  refine r_iconst C dX11_same_22 ?_
  refine r_goto C dX11_same_23 (tgt := 27) (by decide) ?_
  exact w_X11_same_b27 (fin := fin) C h hK
noncomputable def s_X11_same (a0 : Nat) (x1 : Int) (x2 : Int) (μ : Me) : Option (Int × Me) :=
  (pI μ 9 a0 0 0).bind fun m1 =>
  (ck m1 9 a0).bind fun _ =>
  (s_X11_noForm a0 x1 m1).bind fun q2 =>
  (if w32 q2.1 = 0 then
  (ck q2.2 9 a0).bind fun _ =>
  (s_X11_noForm a0 x2 q2.2).bind fun q10 =>
  (if w32 q10.1 = 0 then
  s_X11_same_b27 a0 x1 x2 0 a0 q10.2
  else
  s_X11_same_b22 a0 x1 x2 a0 q10.2)
  else
  s_X11_same_b22 a0 x1 x2 a0 q2.2)
theorem w_X11_same {Z : Zt} {fin : Int × Me} {w : Int × Me} (C : CX Z yX11_same cX11_same (some .int) 8 3) {a0 : Nat} {x1 : Int} {x2 : Int} {μ : Me} (h : s_X11_same a0 x1 x2 μ = some w) (hK : w = fin) : WL Z (QN Z (some (vI fin.1)) fin.2) μ 0 [(0, vO a0), (1, vI x1), (2, vI x2)] [] := by
  unfold s_X11_same at h
  refine r_aload_n C 0 dX11_same_0 rfl rfl ?_
  refine r_iconst C dX11_same_1 ?_
  obtain ⟨m1, em1, h⟩ := bs h
  refine r_putI C (c := 9) (r := (RX11, TX11, 38)) rfl 0 (by decide) rfl ⟨rfl, rfl⟩ rfl em1 q1313 dX11_same_2 ?_
  refine r_aload_n C 0 dX11_same_5 rfl rfl ?_
  refine r_aload_n C 0 dX11_same_6 rfl rfl ?_
  refine r_iload_n C 1 dX11_same_7 rfl rfl ?_
  obtain ⟨u3, eu3, h⟩ := bs h
  obtain ⟨q2, eq2, h⟩ := bs h
  refine r_callV C (As := [vI x1]) (b := a0) (rest := [vO a0]) (st1 := [vI q2.1, vO a0]) (v := some (vI q2.1)) (r := (RX11, TX11, 38)) (ci := 9) rfl eu3 (m_X11_noForm C.tr eq2) (lw_V q1601 q1603 qs64 q133 q1604) rfl hdX11_noForm rfl rfl (Nat.le_of_ble_eq_true rfl) ⟨by decide, by decide⟩ dX11_same_8 rfl ?_
  refine r_if_ne C dX11_same_11 (tgt := 22) (by decide) (fun c4 => ?_) (fun c4 => ?_)
  · have h := ie_ h c4
    exact w_X11_same_b22 (fin := fin) C h hK
  · have h := it_ h c4
    refine r_aload_n C 0 dX11_same_14 rfl rfl ?_
    refine r_iload_n C 2 dX11_same_15 rfl rfl ?_
    obtain ⟨u11, eu11, h⟩ := bs h
    obtain ⟨q10, eq10, h⟩ := bs h
    refine r_callV C (As := [vI x2]) (b := a0) (rest := [vO a0]) (st1 := [vI q10.1, vO a0]) (v := some (vI q10.1)) (r := (RX11, TX11, 38)) (ci := 9) rfl eu11 (m_X11_noForm C.tr eq10) (lw_V q1601 q1603 qs64 q133 q1604) rfl hdX11_noForm rfl rfl (Nat.le_of_ble_eq_true rfl) ⟨by decide, by decide⟩ dX11_same_16 rfl ?_
    refine r_if_eq C dX11_same_19 (tgt := 26) (by decide) (fun c12 => ?_) (fun c12 => ?_)
    · have h := it_ h c12
      refine r_iconst C dX11_same_26 ?_
      exact w_X11_same_b27 (fin := fin) C h hK
    · have h := ie_ h c12
      exact w_X11_same_b22 (fin := fin) C h hK
theorem hdX11_same : zhd yX11_same 2 := by decide +kernel
theorem m_X11_same {l : Launch} {D : va_G} {b0 : Nat} (hl : l.stackTraces = false) {a0 : Nat} {x1 : Int} {x2 : Int} {μ : Me} {w : Int × Me} (h : s_X11_same a0 x1 x2 μ = some w) : MN l D b0 yX11_same (ws_ yX11_same cX11_same 3 (some .int)) 8 [vO a0, vI x1, vI x2] μ (some (vI w.1)) w.2 :=
  MN.of hl (by decide +kernel) (Nat.le_of_ble_eq_true rfl) (fun Z C _ _ => w_X11_same C h rfl)
noncomputable def s_X11_allTables (a0 : Nat) (μ : Me) : Option (Int × Me) :=
  (ck μ 9 a0).bind fun _ =>
  (s_X11_p a0  μ).bind fun q1 =>
  (ck q1.2 9 a0).bind fun _ =>
  (s_X11_p a0  q1.2).bind fun q3 =>
  (ck q3.2 9 a0).bind fun _ =>
  (s_X11_p a0  q3.2).bind fun q5 =>
  (ck q5.2 9 a0).bind fun _ =>
  (s_X11_p a0  q5.2).bind fun q7 =>
  (ck q7.2 9 a0).bind fun _ =>
  (s_X11_p a0  q7.2).bind fun q9 =>
  some ((((q1.1 * q3.1) - 1) * ((q5.1 * q7.1) - q9.1)), q9.2)
theorem w_X11_allTables {Z : Zt} {fin : Int × Me} {w : Int × Me} (C : CX Z yX11_allTables cX11_allTables (some .int) 2 1) {a0 : Nat} {μ : Me} (h : s_X11_allTables a0 μ = some w) (hK : w = fin) : WL Z (QN Z (some (vI fin.1)) fin.2) μ 0 [(0, vO a0)] [] := by
  unfold s_X11_allTables at h
  refine r_aload_n C 0 dX11_allTables_0 rfl rfl ?_
  obtain ⟨u2, eu2, h⟩ := bs h
  obtain ⟨q1, eq1, h⟩ := bs h
  refine r_callV C (As := []) (b := a0) (rest := []) (st1 := [vI q1.1]) (v := some (vI q1.1)) (r := (RX11, TX11, 38)) (ci := 9) rfl eu2 (m_X11_p C.tr eq1) (lw_V q1522 q1524 qs51 q133 q1525) rfl hdX11_p rfl rfl (Nat.le_of_ble_eq_true rfl) ⟨by decide, by decide⟩ dX11_allTables_1 rfl ?_
  refine r_aload_n C 0 dX11_allTables_4 rfl rfl ?_
  obtain ⟨u4, eu4, h⟩ := bs h
  obtain ⟨q3, eq3, h⟩ := bs h
  refine r_callV C (As := []) (b := a0) (rest := [vI q1.1]) (st1 := [vI q3.1, vI q1.1]) (v := some (vI q3.1)) (r := (RX11, TX11, 38)) (ci := 9) rfl eu4 (m_X11_p C.tr eq3) (lw_V q1522 q1524 qs51 q133 q1525) rfl hdX11_p rfl rfl (Nat.le_of_ble_eq_true rfl) ⟨by decide, by decide⟩ dX11_allTables_5 rfl ?_
  refine r_imul C dX11_allTables_8 ?_
  refine r_iconst C dX11_allTables_9 ?_
  refine r_isub C dX11_allTables_10 ?_
  refine r_aload_n C 0 dX11_allTables_11 rfl rfl ?_
  obtain ⟨u6, eu6, h⟩ := bs h
  obtain ⟨q5, eq5, h⟩ := bs h
  refine r_callV C (As := []) (b := a0) (rest := [vI ((q1.1 * q3.1) - 1)]) (st1 := [vI q5.1, vI ((q1.1 * q3.1) - 1)]) (v := some (vI q5.1)) (r := (RX11, TX11, 38)) (ci := 9) rfl eu6 (m_X11_p C.tr eq5) (lw_V q1522 q1524 qs51 q133 q1525) rfl hdX11_p rfl rfl (Nat.le_of_ble_eq_true rfl) ⟨by decide, by decide⟩ dX11_allTables_12 rfl ?_
  refine r_aload_n C 0 dX11_allTables_15 rfl rfl ?_
  obtain ⟨u8, eu8, h⟩ := bs h
  obtain ⟨q7, eq7, h⟩ := bs h
  refine r_callV C (As := []) (b := a0) (rest := [vI q5.1, vI ((q1.1 * q3.1) - 1)]) (st1 := [vI q7.1, vI q5.1, vI ((q1.1 * q3.1) - 1)]) (v := some (vI q7.1)) (r := (RX11, TX11, 38)) (ci := 9) rfl eu8 (m_X11_p C.tr eq7) (lw_V q1522 q1524 qs51 q133 q1525) rfl hdX11_p rfl rfl (Nat.le_of_ble_eq_true rfl) ⟨by decide, by decide⟩ dX11_allTables_16 rfl ?_
  refine r_imul C dX11_allTables_19 ?_
  refine r_aload_n C 0 dX11_allTables_20 rfl rfl ?_
  obtain ⟨u10, eu10, h⟩ := bs h
  obtain ⟨q9, eq9, h⟩ := bs h
  refine r_callV C (As := []) (b := a0) (rest := [vI (q5.1 * q7.1), vI ((q1.1 * q3.1) - 1)]) (st1 := [vI q9.1, vI (q5.1 * q7.1), vI ((q1.1 * q3.1) - 1)]) (v := some (vI q9.1)) (r := (RX11, TX11, 38)) (ci := 9) rfl eu10 (m_X11_p C.tr eq9) (lw_V q1522 q1524 qs51 q133 q1525) rfl hdX11_p rfl rfl (Nat.le_of_ble_eq_true rfl) ⟨by decide, by decide⟩ dX11_allTables_21 rfl ?_
  refine r_isub C dX11_allTables_24 ?_
  refine r_imul C dX11_allTables_25 ?_
  cases h
  exact r_iret C hK dX11_allTables_26
theorem hdX11_allTables : zhd yX11_allTables 0 := by decide +kernel
theorem m_X11_allTables {l : Launch} {D : va_G} {b0 : Nat} (hl : l.stackTraces = false) {a0 : Nat} {μ : Me} {w : Int × Me} (h : s_X11_allTables a0 μ = some w) : MN l D b0 yX11_allTables (ws_ yX11_allTables cX11_allTables 1 (some .int)) 2 [vO a0] μ (some (vI w.1)) w.2 :=
  MN.of hl (by decide +kernel) (Nat.le_of_ble_eq_true rfl) (fun Z C _ _ => w_X11_allTables C h rfl)
noncomputable def s_X11_keeps (a0 : Nat) (x1 : Int) (μ : Me) : Option (Int × Me) :=
  (ck μ 9 a0).bind fun _ =>
  (s_X11_takes a0 40 x1 μ).bind fun q1 =>
  (ck q1 9 a0).bind fun _ =>
  (s_X11_takes a0 41 x1 q1).bind fun q3 =>
  (ck q3 9 a0).bind fun _ =>
  (s_X11_isNought a0 40 q3).bind fun q5 =>
  (if w32 q5.1 = 0 then
  (gR q5.2 9 a0 4).bind fun v10 =>
  (aI q5.2 101 v10 40).bind fun v11 =>
  (if w32 v11 = 0 then
  (ck q5.2 9 a0).bind fun _ =>
  (s_X11_allTables a0  q5.2).bind fun q15 =>
  some (q15.1, q15.2)
  else
  (ck q5.2 9 a0).bind fun _ =>
  (s_X11_tried a0 0 q5.2).bind fun q13 =>
  some (q13.1, q13.2))
  else
  (ck q5.2 9 a0).bind fun _ =>
  (s_X11_allTables a0  q5.2).bind fun q8 =>
  some (q8.1, q8.2))
theorem w_X11_keeps {Z : Zt} {fin : Int × Me} {w : Int × Me} (C : CX Z yX11_keeps cX11_keeps (some .int) 7 2) {a0 : Nat} {x1 : Int} {μ : Me} (h : s_X11_keeps a0 x1 μ = some w) (hK : w = fin) : WL Z (QN Z (some (vI fin.1)) fin.2) μ 0 [(0, vO a0), (1, vI x1)] [] := by
  unfold s_X11_keeps at h
  refine r_aload_n C 0 dX11_keeps_0 rfl rfl ?_
  refine r_bipush C dX11_keeps_1 (by decide) ?_
  refine r_iload_n C 1 dX11_keeps_3 rfl rfl ?_
  obtain ⟨u2, eu2, h⟩ := bs h
  obtain ⟨q1, eq1, h⟩ := bs h
  refine r_callV C (As := [vI 40, vI x1]) (b := a0) (rest := []) (st1 := []) (v := none) (r := (RX11, TX11, 38)) (ci := 9) rfl eu2 (m_X11_takes C.tr eq1) (lw_V q1617 q1619 qs67 q133 q1620) rfl hdX11_takes rfl rfl (Nat.le_of_ble_eq_true rfl) ⟨by decide, by decide⟩ dX11_keeps_4 rfl ?_
  refine r_aload_n C 0 dX11_keeps_7 rfl rfl ?_
  refine r_bipush C dX11_keeps_8 (by decide) ?_
  refine r_iload_n C 1 dX11_keeps_10 rfl rfl ?_
  obtain ⟨u4, eu4, h⟩ := bs h
  obtain ⟨q3, eq3, h⟩ := bs h
  refine r_callV C (As := [vI 41, vI x1]) (b := a0) (rest := []) (st1 := []) (v := none) (r := (RX11, TX11, 38)) (ci := 9) rfl eu4 (m_X11_takes C.tr eq3) (lw_V q1617 q1619 qs67 q133 q1620) rfl hdX11_takes rfl rfl (Nat.le_of_ble_eq_true rfl) ⟨by decide, by decide⟩ dX11_keeps_11 rfl ?_
  refine r_aload_n C 0 dX11_keeps_14 rfl rfl ?_
  refine r_bipush C dX11_keeps_15 (by decide) ?_
  obtain ⟨u6, eu6, h⟩ := bs h
  obtain ⟨q5, eq5, h⟩ := bs h
  refine r_callV C (As := [vI 40]) (b := a0) (rest := []) (st1 := [vI q5.1]) (v := some (vI q5.1)) (r := (RX11, TX11, 38)) (ci := 9) rfl eu6 (m_X11_isNought C.tr eq5) (lw_V q1787 q1789 qs96 q133 q1790) rfl hdX11_isNought rfl rfl (Nat.le_of_ble_eq_true rfl) ⟨by decide, by decide⟩ dX11_keeps_17 rfl ?_
  refine r_if_ne C dX11_keeps_20 (tgt := 33) (by decide) (fun c7 => ?_) (fun c7 => ?_)
  · have h := ie_ h c7
    refine r_aload_n C 0 dX11_keeps_33 rfl rfl ?_
    obtain ⟨u9, eu9, h⟩ := bs h
    obtain ⟨q8, eq8, h⟩ := bs h
    refine r_callV C (As := []) (b := a0) (rest := []) (st1 := [vI q8.1]) (v := some (vI q8.1)) (r := (RX11, TX11, 38)) (ci := 9) rfl eu9 (m_X11_allTables C.tr eq8) (lw_V q1827 q1829 qs102 q133 q1830) rfl hdX11_allTables rfl rfl (Nat.le_of_ble_eq_true rfl) ⟨by decide, by decide⟩ dX11_keeps_34 rfl ?_
    refine r_goto C dX11_keeps_37 (tgt := 45) (by decide) ?_
    cases h
    exact r_iret C hK dX11_keeps_45
  · have h := it_ h c7
    refine r_aload_n C 0 dX11_keeps_23 rfl rfl ?_
    obtain ⟨v10, ev10, h⟩ := bs h
    refine r_getR C (c := 9) (r := (RX11, TX11, 38)) rfl 4 (by decide) rfl ev10 q1317 dX11_keeps_24 ?_
    refine r_bipush C dX11_keeps_27 (by decide) ?_
    obtain ⟨v11, ev11, h⟩ := bs h
    refine r_iald C ev11 dX11_keeps_29 ?_
    refine r_if_ne C dX11_keeps_30 (tgt := 40) (by decide) (fun c12 => ?_) (fun c12 => ?_)
    · have h := ie_ h c12
      refine r_aload_n C 0 dX11_keeps_40 rfl rfl ?_
      refine r_iconst C dX11_keeps_41 ?_
      obtain ⟨u14, eu14, h⟩ := bs h
      obtain ⟨q13, eq13, h⟩ := bs h
      refine r_callV C (As := [vI 0]) (b := a0) (rest := []) (st1 := [vI q13.1]) (v := some (vI q13.1)) (r := (RX11, TX11, 38)) (ci := 9) rfl eu14 (m_X11_tried C.tr eq13) (lw_V q1811 q1813 qs99 q133 q1814) rfl hdX11_tried rfl rfl (Nat.le_of_ble_eq_true rfl) ⟨by decide, by decide⟩ dX11_keeps_42 rfl ?_
      cases h
      exact r_iret C hK dX11_keeps_45
    · have h := it_ h c12
      refine r_aload_n C 0 dX11_keeps_33 rfl rfl ?_
      obtain ⟨u16, eu16, h⟩ := bs h
      obtain ⟨q15, eq15, h⟩ := bs h
      refine r_callV C (As := []) (b := a0) (rest := []) (st1 := [vI q15.1]) (v := some (vI q15.1)) (r := (RX11, TX11, 38)) (ci := 9) rfl eu16 (m_X11_allTables C.tr eq15) (lw_V q1827 q1829 qs102 q133 q1830) rfl hdX11_allTables rfl rfl (Nat.le_of_ble_eq_true rfl) ⟨by decide, by decide⟩ dX11_keeps_34 rfl ?_
      refine r_goto C dX11_keeps_37 (tgt := 45) (by decide) ?_
      cases h
      exact r_iret C hK dX11_keeps_45
theorem hdX11_keeps : zhd yX11_keeps 1 := by decide +kernel
theorem m_X11_keeps {l : Launch} {D : va_G} {b0 : Nat} (hl : l.stackTraces = false) {a0 : Nat} {x1 : Int} {μ : Me} {w : Int × Me} (h : s_X11_keeps a0 x1 μ = some w) : MN l D b0 yX11_keeps (ws_ yX11_keeps cX11_keeps 2 (some .int)) 7 [vO a0, vI x1] μ (some (vI w.1)) w.2 :=
  MN.of hl (by decide +kernel) (Nat.le_of_ble_eq_true rfl) (fun Z C _ _ => w_X11_keeps C h rfl)
noncomputable def s_X11_keep (a0 : Nat) (x1 : Int) (μ : Me) : Option (Int × Me) :=
  (pI μ 9 a0 0 0).bind fun m1 =>
  (ck m1 9 a0).bind fun _ =>
  (s_X11_noForm a0 x1 m1).bind fun q2 =>
  (ck q2.2 9 a0).bind fun _ =>
  (s_X11_throwsIf a0 q2.1 1 q2.2).bind fun q4 =>
  (if w32 q4.1 = 0 then
  (ck q4.2 9 a0).bind fun _ =>
  (s_X11_keeps a0 x1 q4.2).bind fun q7 =>
  some (q7.1, q7.2)
  else
  some (0, q4.2))
theorem w_X11_keep {Z : Zt} {fin : Int × Me} {w : Int × Me} (C : CX Z yX11_keep cX11_keep (some .int) 8 2) {a0 : Nat} {x1 : Int} {μ : Me} (h : s_X11_keep a0 x1 μ = some w) (hK : w = fin) : WL Z (QN Z (some (vI fin.1)) fin.2) μ 0 [(0, vO a0), (1, vI x1)] [] := by
  unfold s_X11_keep at h
  refine r_aload_n C 0 dX11_keep_0 rfl rfl ?_
  refine r_iconst C dX11_keep_1 ?_
  obtain ⟨m1, em1, h⟩ := bs h
  refine r_putI C (c := 9) (r := (RX11, TX11, 38)) rfl 0 (by decide) rfl ⟨rfl, rfl⟩ rfl em1 q1313 dX11_keep_2 ?_
  refine r_aload_n C 0 dX11_keep_5 rfl rfl ?_
  refine r_aload_n C 0 dX11_keep_6 rfl rfl ?_
  refine r_iload_n C 1 dX11_keep_7 rfl rfl ?_
  obtain ⟨u3, eu3, h⟩ := bs h
  obtain ⟨q2, eq2, h⟩ := bs h
  refine r_callV C (As := [vI x1]) (b := a0) (rest := [vO a0]) (st1 := [vI q2.1, vO a0]) (v := some (vI q2.1)) (r := (RX11, TX11, 38)) (ci := 9) rfl eu3 (m_X11_noForm C.tr eq2) (lw_V q1601 q1603 qs64 q133 q1604) rfl hdX11_noForm rfl rfl (Nat.le_of_ble_eq_true rfl) ⟨by decide, by decide⟩ dX11_keep_8 rfl ?_
  refine r_iconst C dX11_keep_11 ?_
  obtain ⟨u5, eu5, h⟩ := bs h
  obtain ⟨q4, eq4, h⟩ := bs h
  refine r_callV C (As := [vI q2.1, vI 1]) (b := a0) (rest := []) (st1 := [vI q4.1]) (v := some (vI q4.1)) (r := (RX11, TX11, 38)) (ci := 9) rfl eu5 (m_X11_throwsIf C.tr eq4) (lw_V q1500 q1502 qs49 q133 q1503) rfl hdX11_throwsIf rfl rfl (Nat.le_of_ble_eq_true rfl) ⟨by decide, by decide⟩ dX11_keep_12 rfl ?_
  refine r_if_eq C dX11_keep_15 (tgt := 22) (by decide) (fun c6 => ?_) (fun c6 => ?_)
  · have h := it_ h c6
    refine r_aload_n C 0 dX11_keep_22 rfl rfl ?_
    refine r_iload_n C 1 dX11_keep_23 rfl rfl ?_
    obtain ⟨u8, eu8, h⟩ := bs h
    obtain ⟨q7, eq7, h⟩ := bs h
    refine r_callV C (As := [vI x1]) (b := a0) (rest := []) (st1 := [vI q7.1]) (v := some (vI q7.1)) (r := (RX11, TX11, 38)) (ci := 9) rfl eu8 (m_X11_keeps C.tr eq7) (lw_V q1823 q1825 qs101 q133 q1826) rfl hdX11_keeps rfl rfl (Nat.le_of_ble_eq_true rfl) ⟨by decide, by decide⟩ dX11_keep_24 rfl ?_
    cases h
    exact r_iret C hK dX11_keep_27
  · have h := ie_ h c6
    refine r_iconst C dX11_keep_18 ?_
    refine r_goto C dX11_keep_19 (tgt := 27) (by decide) ?_
    cases h
    exact r_iret C hK dX11_keep_27
theorem hdX11_keep : zhd yX11_keep 1 := by decide +kernel
theorem m_X11_keep {l : Launch} {D : va_G} {b0 : Nat} (hl : l.stackTraces = false) {a0 : Nat} {x1 : Int} {μ : Me} {w : Int × Me} (h : s_X11_keep a0 x1 μ = some w) : MN l D b0 yX11_keep (ws_ yX11_keep cX11_keep 2 (some .int)) 8 [vO a0, vI x1] μ (some (vI w.1)) w.2 :=
  MN.of hl (by decide +kernel) (Nat.le_of_ble_eq_true rfl) (fun Z C _ _ => w_X11_keep C h rfl)
noncomputable def s_X11_orbit (a0 : Nat) (x1 : Int) (μ : Me) : Option (Int × Me) :=
  (pI μ 9 a0 0 0).bind fun m1 =>
  (ck m1 9 a0).bind fun _ =>
  (s_X11_noForm a0 x1 m1).bind fun q2 =>
  (ck q2.2 9 a0).bind fun _ =>
  (s_X11_throwsIf a0 q2.1 1 q2.2).bind fun q4 =>
  (if w32 q4.1 = 0 then
  (ck q4.2 9 a0).bind fun _ =>
  (s_X11_allTables a0  q4.2).bind fun q7 =>
  (ck q7.2 9 a0).bind fun _ =>
  (s_X11_keeps a0 x1 q7.2).bind fun q9 =>
  (dvI q7.1 q9.1).bind fun v11 =>
  some (v11, q9.2)
  else
  some (0, q4.2))
theorem w_X11_orbit {Z : Zt} {fin : Int × Me} {w : Int × Me} (C : CX Z yX11_orbit cX11_orbit (some .int) 8 2) {a0 : Nat} {x1 : Int} {μ : Me} (h : s_X11_orbit a0 x1 μ = some w) (hK : w = fin) : WL Z (QN Z (some (vI fin.1)) fin.2) μ 0 [(0, vO a0), (1, vI x1)] [] := by
  unfold s_X11_orbit at h
  refine r_aload_n C 0 dX11_orbit_0 rfl rfl ?_
  refine r_iconst C dX11_orbit_1 ?_
  obtain ⟨m1, em1, h⟩ := bs h
  refine r_putI C (c := 9) (r := (RX11, TX11, 38)) rfl 0 (by decide) rfl ⟨rfl, rfl⟩ rfl em1 q1313 dX11_orbit_2 ?_
  refine r_aload_n C 0 dX11_orbit_5 rfl rfl ?_
  refine r_aload_n C 0 dX11_orbit_6 rfl rfl ?_
  refine r_iload_n C 1 dX11_orbit_7 rfl rfl ?_
  obtain ⟨u3, eu3, h⟩ := bs h
  obtain ⟨q2, eq2, h⟩ := bs h
  refine r_callV C (As := [vI x1]) (b := a0) (rest := [vO a0]) (st1 := [vI q2.1, vO a0]) (v := some (vI q2.1)) (r := (RX11, TX11, 38)) (ci := 9) rfl eu3 (m_X11_noForm C.tr eq2) (lw_V q1601 q1603 qs64 q133 q1604) rfl hdX11_noForm rfl rfl (Nat.le_of_ble_eq_true rfl) ⟨by decide, by decide⟩ dX11_orbit_8 rfl ?_
  refine r_iconst C dX11_orbit_11 ?_
  obtain ⟨u5, eu5, h⟩ := bs h
  obtain ⟨q4, eq4, h⟩ := bs h
  refine r_callV C (As := [vI q2.1, vI 1]) (b := a0) (rest := []) (st1 := [vI q4.1]) (v := some (vI q4.1)) (r := (RX11, TX11, 38)) (ci := 9) rfl eu5 (m_X11_throwsIf C.tr eq4) (lw_V q1500 q1502 qs49 q133 q1503) rfl hdX11_throwsIf rfl rfl (Nat.le_of_ble_eq_true rfl) ⟨by decide, by decide⟩ dX11_orbit_12 rfl ?_
  refine r_if_eq C dX11_orbit_15 (tgt := 22) (by decide) (fun c6 => ?_) (fun c6 => ?_)
  · have h := it_ h c6
    refine r_aload_n C 0 dX11_orbit_22 rfl rfl ?_
    obtain ⟨u8, eu8, h⟩ := bs h
    obtain ⟨q7, eq7, h⟩ := bs h
    refine r_callV C (As := []) (b := a0) (rest := []) (st1 := [vI q7.1]) (v := some (vI q7.1)) (r := (RX11, TX11, 38)) (ci := 9) rfl eu8 (m_X11_allTables C.tr eq7) (lw_V q1827 q1829 qs102 q133 q1830) rfl hdX11_allTables rfl rfl (Nat.le_of_ble_eq_true rfl) ⟨by decide, by decide⟩ dX11_orbit_23 rfl ?_
    refine r_aload_n C 0 dX11_orbit_26 rfl rfl ?_
    refine r_iload_n C 1 dX11_orbit_27 rfl rfl ?_
    obtain ⟨u10, eu10, h⟩ := bs h
    obtain ⟨q9, eq9, h⟩ := bs h
    refine r_callV C (As := [vI x1]) (b := a0) (rest := [vI q7.1]) (st1 := [vI q9.1, vI q7.1]) (v := some (vI q9.1)) (r := (RX11, TX11, 38)) (ci := 9) rfl eu10 (m_X11_keeps C.tr eq9) (lw_V q1823 q1825 qs101 q133 q1826) rfl hdX11_keeps rfl rfl (Nat.le_of_ble_eq_true rfl) ⟨by decide, by decide⟩ dX11_orbit_28 rfl ?_
    obtain ⟨v11, ev11, h⟩ := bs h
    refine r_idiv C ev11 dX11_orbit_31 ?_
    cases h
    exact r_iret C hK dX11_orbit_32
  · have h := ie_ h c6
    refine r_iconst C dX11_orbit_18 ?_
    refine r_goto C dX11_orbit_19 (tgt := 32) (by decide) ?_
    cases h
    exact r_iret C hK dX11_orbit_32
theorem hdX11_orbit : zhd yX11_orbit 1 := by decide +kernel
theorem m_X11_orbit {l : Launch} {D : va_G} {b0 : Nat} (hl : l.stackTraces = false) {a0 : Nat} {x1 : Int} {μ : Me} {w : Int × Me} (h : s_X11_orbit a0 x1 μ = some w) : MN l D b0 yX11_orbit (ws_ yX11_orbit cX11_orbit 2 (some .int)) 8 [vO a0, vI x1] μ (some (vI w.1)) w.2 :=
  MN.of hl (by decide +kernel) (Nat.le_of_ble_eq_true rfl) (fun Z C _ _ => w_X11_orbit C h rfl)
noncomputable def s_X11_kind_l22_st (a0 : Nat) (x1 : Int) (x2 : Int) (μ : Me) : Option ((Int × Me) ⊕ (Int × Me)) :=
  (ck μ 9 a0).bind fun _ =>
  (s_X11_sameOf a0 x2 x1 μ).bind fun q7 =>
  (if 0 ≤ w32 q7.1 then
  some (.inr (x2, q7.2))
  else
  some (.inl ((x2 + 1), q7.2)))
theorem w_X11_kind_l22_st {Z : Zt} {fin : Int × Me} {w : ((Int × Me) ⊕ (Int × Me))} (C : CX Z yX11_kind cX11_kind (some .int) 8 3) {a0 : Nat} {x1 : Int} {x2 : Int} {μ : Me} (h : s_X11_kind_l22_st a0 x1 x2 μ = some w) (hK : (Sum.elim (fun s : Int × Me => WL Z (QN Z (some (vI fin.1)) fin.2) s.2 22 [(0, vO a0), (1, vI x1), (2, vI s.1)] []) (fun r : Int × Me => r = fin)) w) : WL Z (QN Z (some (vI fin.1)) fin.2) μ 22 [(0, vO a0), (1, vI x1), (2, vI x2)] [] := by
  unfold s_X11_kind_l22_st at h
  refine r_aload_n C 0 dX11_kind_22 rfl rfl ?_
  refine r_iload_n C 2 dX11_kind_23 rfl rfl ?_
  refine r_iload_n C 1 dX11_kind_24 rfl rfl ?_
  obtain ⟨u8, eu8, h⟩ := bs h
  obtain ⟨q7, eq7, h⟩ := bs h
  refine r_callV C (As := [vI x2, vI x1]) (b := a0) (rest := []) (st1 := [vI q7.1]) (v := some (vI q7.1)) (r := (RX11, TX11, 38)) (ci := 9) rfl eu8 (m_X11_sameOf C.tr eq7) (lw_V q1807 q1809 qs98 q133 q1810) rfl hdX11_sameOf rfl rfl (Nat.le_of_ble_eq_true rfl) ⟨by decide, by decide⟩ dX11_kind_25 rfl ?_
  refine r_if_ge C dX11_kind_28 (tgt := 37) (by decide) (fun c9 => ?_) (fun c9 => ?_)
  · have h := it_ h c9
    refine r_iload_n C 2 dX11_kind_37 rfl rfl ?_
    cases h
    exact r_iret C hK dX11_kind_38
  · have h := ie_ h c9
    refine r_iinc C 2 [(2, vI (x2 + 1)), (0, vO a0), (1, vI x1)] dX11_kind_31 rfl (by decide) rfl ?_
    refine r_goto C dX11_kind_34 (tgt := 22) (by decide) ?_
    cases h
    refine r_sub [1, 2, 0] rfl ?_
    exact hK
noncomputable def s_X11_kind_l22 (a0 : Nat) (x1 : Int) (x2 : Int) (μ : Me) : Option (Int × Me) :=
  whileO (fun s : Int × Me => s_X11_kind_l22_st a0 x1 s.1 s.2) (x2, μ)
theorem e_X11_kind_l22 (a0 : Nat) (x1 : Int) (x2 : Int) (μ : Me) : s_X11_kind_l22 a0 x1 x2 μ = (s_X11_kind_l22_st a0 x1 x2 μ).bind fun x => x.elim (fun s : Int × Me => s_X11_kind_l22 a0 x1 s.1 s.2) some := whileO_eq _ _
theorem w_X11_kind_l22 {Z : Zt} {fin : Int × Me} {w : (Int × Me)} (C : CX Z yX11_kind cX11_kind (some .int) 8 3) {a0 : Nat} {x1 : Int} {x2 : Int} {μ : Me} (h : s_X11_kind_l22 a0 x1 x2 μ = some w) (hK : (fun r : Int × Me => r = fin) w) : WL Z (QN Z (some (vI fin.1)) fin.2) μ 22 [(0, vO a0), (1, vI x1), (2, vI x2)] [] := by
  refine whileO_walk (w := w) (fun s : Int × Me => WL Z (QN Z (some (vI fin.1)) fin.2) s.2 22 [(0, vO a0), (1, vI x1), (2, vI s.1)] []) (fun s v h2 hi hr => ?_) (x2, μ) h
  refine w_X11_kind_l22_st (fin := fin) C h2 ?_
  cases v with
  | inl s2 => exact hi s2 rfl
  | inr r => have e := hr r rfl; subst e; exact hK
noncomputable def s_X11_kind (a0 : Nat) (x1 : Int) (μ : Me) : Option (Int × Me) :=
  (pI μ 9 a0 0 0).bind fun m1 =>
  (ck m1 9 a0).bind fun _ =>
  (s_X11_noForm a0 x1 m1).bind fun q2 =>
  (ck q2.2 9 a0).bind fun _ =>
  (s_X11_throwsIf a0 q2.1 1 q2.2).bind fun q4 =>
  (if w32 q4.1 = 0 then
  s_X11_kind_l22 a0 x1 0 q4.2
  else
  some (0, q4.2))
theorem w_X11_kind {Z : Zt} {fin : Int × Me} {w : Int × Me} (C : CX Z yX11_kind cX11_kind (some .int) 8 3) {a0 : Nat} {x1 : Int} {μ : Me} (h : s_X11_kind a0 x1 μ = some w) (hK : w = fin) : WL Z (QN Z (some (vI fin.1)) fin.2) μ 0 [(0, vO a0), (1, vI x1)] [] := by
  unfold s_X11_kind at h
  refine r_aload_n C 0 dX11_kind_0 rfl rfl ?_
  refine r_iconst C dX11_kind_1 ?_
  obtain ⟨m1, em1, h⟩ := bs h
  refine r_putI C (c := 9) (r := (RX11, TX11, 38)) rfl 0 (by decide) rfl ⟨rfl, rfl⟩ rfl em1 q1313 dX11_kind_2 ?_
  refine r_aload_n C 0 dX11_kind_5 rfl rfl ?_
  refine r_aload_n C 0 dX11_kind_6 rfl rfl ?_
  refine r_iload_n C 1 dX11_kind_7 rfl rfl ?_
  obtain ⟨u3, eu3, h⟩ := bs h
  obtain ⟨q2, eq2, h⟩ := bs h
  refine r_callV C (As := [vI x1]) (b := a0) (rest := [vO a0]) (st1 := [vI q2.1, vO a0]) (v := some (vI q2.1)) (r := (RX11, TX11, 38)) (ci := 9) rfl eu3 (m_X11_noForm C.tr eq2) (lw_V q1601 q1603 qs64 q133 q1604) rfl hdX11_noForm rfl rfl (Nat.le_of_ble_eq_true rfl) ⟨by decide, by decide⟩ dX11_kind_8 rfl ?_
  refine r_iconst C dX11_kind_11 ?_
  obtain ⟨u5, eu5, h⟩ := bs h
  obtain ⟨q4, eq4, h⟩ := bs h
  refine r_callV C (As := [vI q2.1, vI 1]) (b := a0) (rest := []) (st1 := [vI q4.1]) (v := some (vI q4.1)) (r := (RX11, TX11, 38)) (ci := 9) rfl eu5 (m_X11_throwsIf C.tr eq4) (lw_V q1500 q1502 qs49 q133 q1503) rfl hdX11_throwsIf rfl rfl (Nat.le_of_ble_eq_true rfl) ⟨by decide, by decide⟩ dX11_kind_12 rfl ?_
  refine r_if_eq C dX11_kind_15 (tgt := 20) (by decide) (fun c6 => ?_) (fun c6 => ?_)
  · have h := it_ h c6
    refine r_iconst C dX11_kind_20 ?_
    refine r_istore_n C [(2, vI 0), (0, vO a0), (1, vI x1)] dX11_kind_21 rfl (by decide) rfl ?_
    refine r_sub [1, 2, 0] rfl ?_
    exact w_X11_kind_l22 (fin := fin) C h hK
  · have h := ie_ h c6
    refine r_iconst C dX11_kind_18 ?_
    cases h
    exact r_iret C hK dX11_kind_19
theorem hdX11_kind : zhd yX11_kind 1 := by decide +kernel
theorem m_X11_kind {l : Launch} {D : va_G} {b0 : Nat} (hl : l.stackTraces = false) {a0 : Nat} {x1 : Int} {μ : Me} {w : Int × Me} (h : s_X11_kind a0 x1 μ = some w) : MN l D b0 yX11_kind (ws_ yX11_kind cX11_kind 3 (some .int)) 8 [vO a0, vI x1] μ (some (vI w.1)) w.2 :=
  MN.of hl (by decide +kernel) (Nat.le_of_ble_eq_true rfl) (fun Z C _ _ => w_X11_kind C h rfl)
noncomputable def s_X11_raises_l77_st (a0 : Nat) (x1 : Int) (x2 : Int) (x3 : Int) (μ : Me) : Option ((Int × Me) ⊕ ((Int × Me) ⊕ (Me))) :=
  (if w32 x1 < w32 x3 then
  some (.inr (.inl ((x2 + 1), μ)))
  else
  (gR μ 9 a0 26).bind fun v10 =>
  (ck μ 9 a0).bind fun _ =>
  (s_X11_of a0 45 x3 μ).bind fun q11 =>
  (uI q11.2 v10 ((9 * x2) + x3) q11.1).bind fun m13 =>
  some (.inl ((x3 + 1), m13)))
theorem w_X11_raises_l77_st {Z : Zt} {fin : Me} {w : ((Int × Me) ⊕ ((Int × Me) ⊕ (Me)))} (C : CX Z yX11_raises cX11_raises none 4 4) {a0 : Nat} {x1 : Int} {x2 : Int} {x3 : Int} {μ : Me} (h : s_X11_raises_l77_st a0 x1 x2 x3 μ = some w) (hK : (Sum.elim (fun s : Int × Me => WL Z (QN Z none fin) s.2 77 [(0, vO a0), (1, vI x1), (2, vI x2), (3, vI s.1)] []) (Sum.elim (fun s : Int × Me => WL Z (QN Z none fin) s.2 2 [(0, vO a0), (1, vI x1), (2, vI s.1)] []) (fun r : Me => r = fin))) w) : WL Z (QN Z none fin) μ 77 [(0, vO a0), (1, vI x1), (2, vI x2), (3, vI x3)] [] := by
  unfold s_X11_raises_l77_st at h
  refine r_iload_n C 3 dX11_raises_77 rfl rfl ?_
  refine r_iload_n C 1 dX11_raises_78 rfl rfl ?_
  refine r_icmp_gt C dX11_raises_79 (tgt := 106) (by decide) (fun c9 => ?_) (fun c9 => ?_)
  · have h := it_ h c9
    refine r_iinc C 2 [(2, vI (x2 + 1)), (0, vO a0), (1, vI x1), (3, vI x3)] dX11_raises_106 rfl (by decide) rfl ?_
    refine r_goto C dX11_raises_109 (tgt := 2) (by decide) ?_
    cases h
    refine r_sub [1, 2, 0] rfl ?_
    exact hK
  · have h := ie_ h c9
    refine r_aload_n C 0 dX11_raises_82 rfl rfl ?_
    obtain ⟨v10, ev10, h⟩ := bs h
    refine r_getR C (c := 9) (r := (RX11, TX11, 38)) rfl 26 (by decide) rfl ev10 q1339 dX11_raises_83 ?_
    refine r_bipush C dX11_raises_86 (by decide) ?_
    refine r_iload_n C 2 dX11_raises_88 rfl rfl ?_
    refine r_imul C dX11_raises_89 ?_
    refine r_iload_n C 3 dX11_raises_90 rfl rfl ?_
    refine r_iadd C dX11_raises_91 ?_
    refine r_aload_n C 0 dX11_raises_92 rfl rfl ?_
    refine r_bipush C dX11_raises_93 (by decide) ?_
    refine r_iload_n C 3 dX11_raises_95 rfl rfl ?_
    obtain ⟨u12, eu12, h⟩ := bs h
    obtain ⟨q11, eq11, h⟩ := bs h
    refine r_callV C (As := [vI 45, vI x3]) (b := a0) (rest := [vI ((9 * x2) + x3), vO v10]) (st1 := [vI q11.1, vI ((9 * x2) + x3), vO v10]) (v := some (vI q11.1)) (r := (RX11, TX11, 38)) (ci := 9) rfl eu12 (m_X11_of C.tr eq11) (lw_V q1629 q1631 qs70 q133 q1632) rfl hdX11_of rfl rfl (Nat.le_of_ble_eq_true rfl) ⟨by decide, by decide⟩ dX11_raises_96 rfl ?_
    obtain ⟨m13, em13, h⟩ := bs h
    refine r_iast C em13 dX11_raises_99 ?_
    refine r_iinc C 3 [(3, vI (x3 + 1)), (0, vO a0), (1, vI x1), (2, vI x2)] dX11_raises_100 rfl (by decide) rfl ?_
    refine r_goto C dX11_raises_103 (tgt := 77) (by decide) ?_
    cases h
    refine r_sub [1, 2, 3, 0] rfl ?_
    exact hK
noncomputable def s_X11_raises_l77 (a0 : Nat) (x1 : Int) (x2 : Int) (x3 : Int) (μ : Me) : Option ((Int × Me) ⊕ (Me)) :=
  whileO (fun s : Int × Me => s_X11_raises_l77_st a0 x1 x2 s.1 s.2) (x3, μ)
theorem e_X11_raises_l77 (a0 : Nat) (x1 : Int) (x2 : Int) (x3 : Int) (μ : Me) : s_X11_raises_l77 a0 x1 x2 x3 μ = (s_X11_raises_l77_st a0 x1 x2 x3 μ).bind fun x => x.elim (fun s : Int × Me => s_X11_raises_l77 a0 x1 x2 s.1 s.2) some := whileO_eq _ _
theorem w_X11_raises_l77 {Z : Zt} {fin : Me} {w : ((Int × Me) ⊕ (Me))} (C : CX Z yX11_raises cX11_raises none 4 4) {a0 : Nat} {x1 : Int} {x2 : Int} {x3 : Int} {μ : Me} (h : s_X11_raises_l77 a0 x1 x2 x3 μ = some w) (hK : (Sum.elim (fun s : Int × Me => WL Z (QN Z none fin) s.2 2 [(0, vO a0), (1, vI x1), (2, vI s.1)] []) (fun r : Me => r = fin)) w) : WL Z (QN Z none fin) μ 77 [(0, vO a0), (1, vI x1), (2, vI x2), (3, vI x3)] [] := by
  refine whileO_walk (w := w) (fun s : Int × Me => WL Z (QN Z none fin) s.2 77 [(0, vO a0), (1, vI x1), (2, vI x2), (3, vI s.1)] []) (fun s v h2 hi hr => ?_) (x3, μ) h
  refine w_X11_raises_l77_st (fin := fin) C h2 ?_
  cases v with
  | inl s2 => exact hi s2 rfl
  | inr r => have e := hr r rfl; subst e; exact hK
noncomputable def s_X11_raises_b48 (a0 : Nat) (x1 : Int) (x2 : Int) (x3 : Int) (t0 : Int) (t1 : Int) (t2 : Nat) (μ : Me) : Option ((Int × Me) ⊕ ((Int × Me) ⊕ (Me))) :=
  (ck μ 9 a0).bind fun _ =>
  (s_X11_p a0  μ).bind fun q17 =>
  (if w32 q17.1 ≤ w32 x2 then
  (ck q17.2 9 t2).bind fun _ =>
  (s_X11_widens t2 t1 t0 1 q17.2).bind fun q20 =>
  some (.inl ((x3 + 1), q20))
  else
  (ck q17.2 9 a0).bind fun _ =>
  (s_X11_less a0 0 x2 q17.2).bind fun q22 =>
  (ck q22.2 9 t2).bind fun _ =>
  (s_X11_widens t2 t1 t0 q22.1 q22.2).bind fun q24 =>
  some (.inl ((x3 + 1), q24)))
theorem w_X11_raises_b48 {Z : Zt} {fin : Me} {w : ((Int × Me) ⊕ ((Int × Me) ⊕ (Me)))} (C : CX Z yX11_raises cX11_raises none 4 4) {a0 : Nat} {x1 : Int} {x2 : Int} {x3 : Int} {t0 : Int} {t1 : Int} {t2 : Nat} {μ : Me} (h : s_X11_raises_b48 a0 x1 x2 x3 t0 t1 t2 μ = some w) (hK : (Sum.elim (fun s : Int × Me => WL Z (QN Z none fin) s.2 27 [(0, vO a0), (1, vI x1), (2, vI x2), (3, vI s.1)] []) (Sum.elim (fun s : Int × Me => WL Z (QN Z none fin) s.2 2 [(0, vO a0), (1, vI x1), (2, vI s.1)] []) (fun r : Me => r = fin))) w) : WL Z (QN Z none fin) μ 48 [(0, vO a0), (1, vI x1), (2, vI x2), (3, vI x3)] [vI t0, vI t1, vO t2] := by
  unfold s_X11_raises_b48 at h
  refine r_iload_n C 2 dX11_raises_48 rfl rfl ?_
  refine r_aload_n C 0 dX11_raises_49 rfl rfl ?_
  obtain ⟨u18, eu18, h⟩ := bs h
  obtain ⟨q17, eq17, h⟩ := bs h
  refine r_callV C (As := []) (b := a0) (rest := [vI x2, vI t0, vI t1, vO t2]) (st1 := [vI q17.1, vI x2, vI t0, vI t1, vO t2]) (v := some (vI q17.1)) (r := (RX11, TX11, 38)) (ci := 9) rfl eu18 (m_X11_p C.tr eq17) (lw_V q1522 q1524 qs51 q133 q1525) rfl hdX11_p rfl rfl (Nat.le_of_ble_eq_true rfl) ⟨by decide, by decide⟩ dX11_raises_50 rfl ?_
  refine r_icmp_ge C dX11_raises_53 (tgt := 65) (by decide) (fun c19 => ?_) (fun c19 => ?_)
  · have h := it_ h c19
    refine r_iconst C dX11_raises_65 ?_
    obtain ⟨u21, eu21, h⟩ := bs h
    obtain ⟨q20, eq20, h⟩ := bs h
    refine r_callV C (As := [vI t1, vI t0, vI 1]) (b := t2) (rest := []) (st1 := []) (v := none) (r := (RX11, TX11, 38)) (ci := 9) rfl eu21 (m_X11_widens C.tr eq20) (lw_V q1649 q1651 qs74 q133 q1652) rfl hdX11_widens rfl rfl (Nat.le_of_ble_eq_true rfl) ⟨by decide, by decide⟩ dX11_raises_66 rfl ?_
    refine r_iinc C 3 [(3, vI (x3 + 1)), (0, vO a0), (1, vI x1), (2, vI x2)] dX11_raises_69 rfl (by decide) rfl ?_
    refine r_goto C dX11_raises_72 (tgt := 27) (by decide) ?_
    cases h
    refine r_sub [1, 2, 3, 0] rfl ?_
    exact hK
  · have h := ie_ h c19
    refine r_aload_n C 0 dX11_raises_56 rfl rfl ?_
    refine r_iconst C dX11_raises_57 ?_
    refine r_iload_n C 2 dX11_raises_58 rfl rfl ?_
    obtain ⟨u23, eu23, h⟩ := bs h
    obtain ⟨q22, eq22, h⟩ := bs h
    refine r_callV C (As := [vI 0, vI x2]) (b := a0) (rest := [vI t0, vI t1, vO t2]) (st1 := [vI q22.1, vI t0, vI t1, vO t2]) (v := some (vI q22.1)) (r := (RX11, TX11, 38)) (ci := 9) rfl eu23 (m_X11_less C.tr eq22) (lw_V q1545 q1547 qs55 q133 q1548) rfl hdX11_less rfl rfl (Nat.le_of_ble_eq_true rfl) ⟨by decide, by decide⟩ dX11_raises_59 rfl ?_
    refine r_goto C dX11_raises_62 (tgt := 66) (by decide) ?_
    obtain ⟨u25, eu25, h⟩ := bs h
    obtain ⟨q24, eq24, h⟩ := bs h
    refine r_callV C (As := [vI t1, vI t0, vI q22.1]) (b := t2) (rest := []) (st1 := []) (v := none) (r := (RX11, TX11, 38)) (ci := 9) rfl eu25 (m_X11_widens C.tr eq24) (lw_V q1649 q1651 qs74 q133 q1652) rfl hdX11_widens rfl rfl (Nat.le_of_ble_eq_true rfl) ⟨by decide, by decide⟩ dX11_raises_66 rfl ?_
    refine r_iinc C 3 [(3, vI (x3 + 1)), (0, vO a0), (1, vI x1), (2, vI x2)] dX11_raises_69 rfl (by decide) rfl ?_
    refine r_goto C dX11_raises_72 (tgt := 27) (by decide) ?_
    cases h
    refine r_sub [1, 2, 3, 0] rfl ?_
    exact hK
noncomputable def s_X11_raises_l27_st (a0 : Nat) (x1 : Int) (x2 : Int) (x3 : Int) (μ : Me) : Option ((Int × Me) ⊕ ((Int × Me) ⊕ (Me))) :=
  (if w32 x1 ≤ w32 x3 then
  (s_X11_raises_l77 a0 x1 x2 0 μ).map Sum.inr
  else
  (ck μ 9 a0).bind fun _ =>
  (s_X11_p a0  μ).bind fun q14 =>
  (if w32 q14.1 ≤ w32 x2 then
  s_X11_raises_b48 a0 x1 x2 x3 0 45 a0 q14.2
  else
  s_X11_raises_b48 a0 x1 x2 x3 1 45 a0 q14.2))
theorem w_X11_raises_l27_st {Z : Zt} {fin : Me} {w : ((Int × Me) ⊕ ((Int × Me) ⊕ (Me)))} (C : CX Z yX11_raises cX11_raises none 4 4) {a0 : Nat} {x1 : Int} {x2 : Int} {x3 : Int} {μ : Me} (h : s_X11_raises_l27_st a0 x1 x2 x3 μ = some w) (hK : (Sum.elim (fun s : Int × Me => WL Z (QN Z none fin) s.2 27 [(0, vO a0), (1, vI x1), (2, vI x2), (3, vI s.1)] []) (Sum.elim (fun s : Int × Me => WL Z (QN Z none fin) s.2 2 [(0, vO a0), (1, vI x1), (2, vI s.1)] []) (fun r : Me => r = fin))) w) : WL Z (QN Z none fin) μ 27 [(0, vO a0), (1, vI x1), (2, vI x2), (3, vI x3)] [] := by
  unfold s_X11_raises_l27_st at h
  refine r_iload_n C 3 dX11_raises_27 rfl rfl ?_
  refine r_iload_n C 1 dX11_raises_28 rfl rfl ?_
  refine r_icmp_ge C dX11_raises_29 (tgt := 75) (by decide) (fun c8 => ?_) (fun c8 => ?_)
  · have h := it_ h c8
    refine r_iconst C dX11_raises_75 ?_
    refine r_istore_n C [(3, vI 0), (0, vO a0), (1, vI x1), (2, vI x2)] dX11_raises_76 rfl (by decide) rfl ?_
    obtain ⟨z, hz, ez⟩ := ms_ h; clear h; subst ez; have h := hz; clear hz
    refine r_sub [1, 2, 3, 0] rfl ?_
    exact w_X11_raises_l77 (fin := fin) C h hK
  · have h := ie_ h c8
    refine r_aload_n C 0 dX11_raises_32 rfl rfl ?_
    refine r_bipush C dX11_raises_33 (by decide) ?_
    refine r_iload_n C 2 dX11_raises_35 rfl rfl ?_
    refine r_aload_n C 0 dX11_raises_36 rfl rfl ?_
    obtain ⟨u15, eu15, h⟩ := bs h
    obtain ⟨q14, eq14, h⟩ := bs h
    refine r_callV C (As := []) (b := a0) (rest := [vI x2, vI 45, vO a0]) (st1 := [vI q14.1, vI x2, vI 45, vO a0]) (v := some (vI q14.1)) (r := (RX11, TX11, 38)) (ci := 9) rfl eu15 (m_X11_p C.tr eq14) (lw_V q1522 q1524 qs51 q133 q1525) rfl hdX11_p rfl rfl (Nat.le_of_ble_eq_true rfl) ⟨by decide, by decide⟩ dX11_raises_37 rfl ?_
    refine r_icmp_ge C dX11_raises_40 (tgt := 47) (by decide) (fun c16 => ?_) (fun c16 => ?_)
    · have h := it_ h c16
      refine r_iconst C dX11_raises_47 ?_
      exact w_X11_raises_b48 (fin := fin) C h hK
    · have h := ie_ h c16
      refine r_iconst C dX11_raises_43 ?_
      refine r_goto C dX11_raises_44 (tgt := 48) (by decide) ?_
      exact w_X11_raises_b48 (fin := fin) C h hK
noncomputable def s_X11_raises_l27 (a0 : Nat) (x1 : Int) (x2 : Int) (x3 : Int) (μ : Me) : Option ((Int × Me) ⊕ (Me)) :=
  whileO (fun s : Int × Me => s_X11_raises_l27_st a0 x1 x2 s.1 s.2) (x3, μ)
theorem e_X11_raises_l27 (a0 : Nat) (x1 : Int) (x2 : Int) (x3 : Int) (μ : Me) : s_X11_raises_l27 a0 x1 x2 x3 μ = (s_X11_raises_l27_st a0 x1 x2 x3 μ).bind fun x => x.elim (fun s : Int × Me => s_X11_raises_l27 a0 x1 x2 s.1 s.2) some := whileO_eq _ _
theorem w_X11_raises_l27 {Z : Zt} {fin : Me} {w : ((Int × Me) ⊕ (Me))} (C : CX Z yX11_raises cX11_raises none 4 4) {a0 : Nat} {x1 : Int} {x2 : Int} {x3 : Int} {μ : Me} (h : s_X11_raises_l27 a0 x1 x2 x3 μ = some w) (hK : (Sum.elim (fun s : Int × Me => WL Z (QN Z none fin) s.2 2 [(0, vO a0), (1, vI x1), (2, vI s.1)] []) (fun r : Me => r = fin)) w) : WL Z (QN Z none fin) μ 27 [(0, vO a0), (1, vI x1), (2, vI x2), (3, vI x3)] [] := by
  refine whileO_walk (w := w) (fun s : Int × Me => WL Z (QN Z none fin) s.2 27 [(0, vO a0), (1, vI x1), (2, vI x2), (3, vI s.1)] []) (fun s v h2 hi hr => ?_) (x3, μ) h
  refine w_X11_raises_l27_st (fin := fin) C h2 ?_
  cases v with
  | inl s2 => exact hi s2 rfl
  | inr r => have e := hr r rfl; subst e; exact hK
noncomputable def s_X11_raises_l2_st (a0 : Nat) (x1 : Int) (x2 : Int) (μ : Me) : Option ((Int × Me) ⊕ (Me)) :=
  (ck μ 9 a0).bind fun _ =>
  (s_X11_p a0  μ).bind fun q1 =>
  (if w32 q1.1 < w32 x2 then
  some (.inr q1.2)
  else
  (ck q1.2 9 a0).bind fun _ =>
  (s_X11_clears a0 45 0 q1.2).bind fun q4 =>
  (ck q4 9 a0).bind fun _ =>
  (s_X11_put a0 45 0 1 q4).bind fun q6 =>
  s_X11_raises_l27 a0 x1 x2 0 q6)
theorem w_X11_raises_l2_st {Z : Zt} {fin : Me} {w : ((Int × Me) ⊕ (Me))} (C : CX Z yX11_raises cX11_raises none 4 4) {a0 : Nat} {x1 : Int} {x2 : Int} {μ : Me} (h : s_X11_raises_l2_st a0 x1 x2 μ = some w) (hK : (Sum.elim (fun s : Int × Me => WL Z (QN Z none fin) s.2 2 [(0, vO a0), (1, vI x1), (2, vI s.1)] []) (fun r : Me => r = fin)) w) : WL Z (QN Z none fin) μ 2 [(0, vO a0), (1, vI x1), (2, vI x2)] [] := by
  unfold s_X11_raises_l2_st at h
  refine r_iload_n C 2 dX11_raises_2 rfl rfl ?_
  refine r_aload_n C 0 dX11_raises_3 rfl rfl ?_
  obtain ⟨u2, eu2, h⟩ := bs h
  obtain ⟨q1, eq1, h⟩ := bs h
  refine r_callV C (As := []) (b := a0) (rest := [vI x2]) (st1 := [vI q1.1, vI x2]) (v := some (vI q1.1)) (r := (RX11, TX11, 38)) (ci := 9) rfl eu2 (m_X11_p C.tr eq1) (lw_V q1522 q1524 qs51 q133 q1525) rfl hdX11_p rfl rfl (Nat.le_of_ble_eq_true rfl) ⟨by decide, by decide⟩ dX11_raises_4 rfl ?_
  refine r_icmp_gt C dX11_raises_7 (tgt := 112) (by decide) (fun c3 => ?_) (fun c3 => ?_)
  · have h := it_ h c3
    cases h
    exact r_vret C hK dX11_raises_112
  · have h := ie_ h c3
    refine r_aload_n C 0 dX11_raises_10 rfl rfl ?_
    refine r_bipush C dX11_raises_11 (by decide) ?_
    refine r_iconst C dX11_raises_13 ?_
    obtain ⟨u5, eu5, h⟩ := bs h
    obtain ⟨q4, eq4, h⟩ := bs h
    refine r_callV C (As := [vI 45, vI 0]) (b := a0) (rest := []) (st1 := []) (v := none) (r := (RX11, TX11, 38)) (ci := 9) rfl eu5 (m_X11_clears C.tr eq4) (lw_V q1645 q1647 qs73 q133 q1648) rfl hdX11_clears rfl rfl (Nat.le_of_ble_eq_true rfl) ⟨by decide, by decide⟩ dX11_raises_14 rfl ?_
    refine r_aload_n C 0 dX11_raises_17 rfl rfl ?_
    refine r_bipush C dX11_raises_18 (by decide) ?_
    refine r_iconst C dX11_raises_20 ?_
    refine r_iconst C dX11_raises_21 ?_
    obtain ⟨u7, eu7, h⟩ := bs h
    obtain ⟨q6, eq6, h⟩ := bs h
    refine r_callV C (As := [vI 45, vI 0, vI 1]) (b := a0) (rest := []) (st1 := []) (v := none) (r := (RX11, TX11, 38)) (ci := 9) rfl eu7 (m_X11_put C.tr eq6) (lw_V q1621 q1623 qs68 q133 q1624) rfl hdX11_put rfl rfl (Nat.le_of_ble_eq_true rfl) ⟨by decide, by decide⟩ dX11_raises_22 rfl ?_
    refine r_iconst C dX11_raises_25 ?_
    refine r_istore_n C [(3, vI 0), (0, vO a0), (1, vI x1), (2, vI x2)] dX11_raises_26 rfl (by decide) rfl ?_
    refine r_sub [1, 2, 3, 0] rfl ?_
    exact w_X11_raises_l27 (fin := fin) C h hK
noncomputable def s_X11_raises_l2 (a0 : Nat) (x1 : Int) (x2 : Int) (μ : Me) : Option (Me) :=
  whileO (fun s : Int × Me => s_X11_raises_l2_st a0 x1 s.1 s.2) (x2, μ)
theorem e_X11_raises_l2 (a0 : Nat) (x1 : Int) (x2 : Int) (μ : Me) : s_X11_raises_l2 a0 x1 x2 μ = (s_X11_raises_l2_st a0 x1 x2 μ).bind fun x => x.elim (fun s : Int × Me => s_X11_raises_l2 a0 x1 s.1 s.2) some := whileO_eq _ _
theorem w_X11_raises_l2 {Z : Zt} {fin : Me} {w : (Me)} (C : CX Z yX11_raises cX11_raises none 4 4) {a0 : Nat} {x1 : Int} {x2 : Int} {μ : Me} (h : s_X11_raises_l2 a0 x1 x2 μ = some w) (hK : (fun r : Me => r = fin) w) : WL Z (QN Z none fin) μ 2 [(0, vO a0), (1, vI x1), (2, vI x2)] [] := by
  refine whileO_walk (w := w) (fun s : Int × Me => WL Z (QN Z none fin) s.2 2 [(0, vO a0), (1, vI x1), (2, vI s.1)] []) (fun s v h2 hi hr => ?_) (x2, μ) h
  refine w_X11_raises_l2_st (fin := fin) C h2 ?_
  cases v with
  | inl s2 => exact hi s2 rfl
  | inr r => have e := hr r rfl; subst e; exact hK
noncomputable def s_X11_raises (a0 : Nat) (x1 : Int) (μ : Me) : Option (Me) :=
  s_X11_raises_l2 a0 x1 0 μ
theorem w_X11_raises {Z : Zt} {fin : Me} {w : Me} (C : CX Z yX11_raises cX11_raises none 4 4) {a0 : Nat} {x1 : Int} {μ : Me} (h : s_X11_raises a0 x1 μ = some w) (hK : w = fin) : WL Z (QN Z none fin) μ 0 [(0, vO a0), (1, vI x1)] [] := by
  unfold s_X11_raises at h
  refine r_iconst C dX11_raises_0 ?_
  refine r_istore_n C [(2, vI 0), (0, vO a0), (1, vI x1)] dX11_raises_1 rfl (by decide) rfl ?_
  refine r_sub [1, 2, 0] rfl ?_
  exact w_X11_raises_l2 (fin := fin) C h hK
theorem hdX11_raises : zhd yX11_raises 1 := by decide +kernel
theorem m_X11_raises {l : Launch} {D : va_G} {b0 : Nat} (hl : l.stackTraces = false) {a0 : Nat} {x1 : Int} {μ : Me} {w : Me} (h : s_X11_raises a0 x1 μ = some w) : MN l D b0 yX11_raises (ws_ yX11_raises cX11_raises 4 none) 4 [vO a0, vI x1] μ none w :=
  MN.of hl (by decide +kernel) (Nat.le_of_ble_eq_true rfl) (fun Z C _ _ => w_X11_raises C h rfl)
noncomputable def s_X11_powerAt (a0 : Nat) (x1 : Int) (x2 : Int) (μ : Me) : Option (Int × Me) :=
  (gR μ 9 a0 26).bind fun v1 =>
  (aI μ 101 v1 ((9 * x1) + x2)).bind fun v2 =>
  some (v2, μ)
theorem w_X11_powerAt {Z : Zt} {fin : Int × Me} {w : Int × Me} (C : CX Z yX11_powerAt cX11_powerAt (some .int) 1 3) {a0 : Nat} {x1 : Int} {x2 : Int} {μ : Me} (h : s_X11_powerAt a0 x1 x2 μ = some w) (hK : w = fin) : WL Z (QN Z (some (vI fin.1)) fin.2) μ 0 [(0, vO a0), (1, vI x1), (2, vI x2)] [] := by
  unfold s_X11_powerAt at h
  refine r_aload_n C 0 dX11_powerAt_0 rfl rfl ?_
  obtain ⟨v1, ev1, h⟩ := bs h
  refine r_getR C (c := 9) (r := (RX11, TX11, 38)) rfl 26 (by decide) rfl ev1 q1339 dX11_powerAt_1 ?_
  refine r_bipush C dX11_powerAt_4 (by decide) ?_
  refine r_iload_n C 1 dX11_powerAt_6 rfl rfl ?_
  refine r_imul C dX11_powerAt_7 ?_
  refine r_iload_n C 2 dX11_powerAt_8 rfl rfl ?_
  refine r_iadd C dX11_powerAt_9 ?_
  obtain ⟨v2, ev2, h⟩ := bs h
  refine r_iald C ev2 dX11_powerAt_10 ?_
  cases h
  exact r_iret C hK dX11_powerAt_11
theorem hdX11_powerAt : zhd yX11_powerAt 2 := by decide +kernel
theorem m_X11_powerAt {l : Launch} {D : va_G} {b0 : Nat} (hl : l.stackTraces = false) {a0 : Nat} {x1 : Int} {x2 : Int} {μ : Me} {w : Int × Me} (h : s_X11_powerAt a0 x1 x2 μ = some w) : MN l D b0 yX11_powerAt (ws_ yX11_powerAt cX11_powerAt 3 (some .int)) 1 [vO a0, vI x1, vI x2] μ (some (vI w.1)) w.2 :=
  MN.of hl (by decide +kernel) (Nat.le_of_ble_eq_true rfl) (fun Z C _ _ => w_X11_powerAt C h rfl)
noncomputable def s_X11_isLast_l144_st (a0 : Nat) (x2 : Int) (x3 : Int) (x4 : Int) (x5 : Int) (μ : Me) : Option ((Int × Int × Me) ⊕ (Int × Me)) :=
  (gR μ 9 a0 4).bind fun v16 =>
  (aI μ 101 v16 42).bind fun v17 =>
  (if w32 v17 < w32 x5 then
  (bz2 x4).bind fun _ =>
  some (.inr (x4, μ))
  else
  (if w32 x4 = 0 then
  (bz2 x4).bind fun _ =>
  some (.inr (x4, μ))
  else
  (ck μ 9 a0).bind fun _ =>
  (s_X11_of a0 42 x5 μ).bind fun q22 =>
  (ck q22.2 9 a0).bind fun _ =>
  (s_X11_powerAt a0 x2 x5 q22.2).bind fun q24 =>
  (ck q24.2 9 a0).bind fun _ =>
  (s_X11_times a0 x3 q24.1 q24.2).bind fun q26 =>
  (if w32 q22.1 = w32 q26.1 then
  some (.inl (1, (x5 + 1), q26.2))
  else
  some (.inl (0, (x5 + 1), q26.2)))))
theorem w_X11_isLast_l144_st {Z : Zt} {fin : Int × Me} {w : ((Int × Int × Me) ⊕ (Int × Me))} (C : CX Z yX11_isLast cX11_isLast (some .boolean) 3 6) {a0 : Nat} {x2 : Int} {x3 : Int} {x4 : Int} {x5 : Int} {μ : Me} (h : s_X11_isLast_l144_st a0 x2 x3 x4 x5 μ = some w) (hK : (Sum.elim (fun s : Int × Int × Me => WL Z (QN Z (some (vI fin.1)) fin.2) s.2.2 144 [(0, vO a0), (2, vI x2), (3, vI x3), (4, vI s.1), (5, vI s.2.1)] []) (fun r : Int × Me => r = fin)) w) : WL Z (QN Z (some (vI fin.1)) fin.2) μ 144 [(0, vO a0), (2, vI x2), (3, vI x3), (4, vI x4), (5, vI x5)] [] := by
  unfold s_X11_isLast_l144_st at h
  refine r_iload C 4 dX11_isLast_144 rfl ?_
  refine r_aload_n C 0 dX11_isLast_146 rfl rfl ?_
  obtain ⟨v16, ev16, h⟩ := bs h
  refine r_getR C (c := 9) (r := (RX11, TX11, 38)) rfl 4 (by decide) rfl ev16 q1317 dX11_isLast_147 ?_
  refine r_bipush C dX11_isLast_150 (by decide) ?_
  obtain ⟨v17, ev17, h⟩ := bs h
  refine r_iald C ev17 dX11_isLast_152 ?_
  refine r_icmp_gt C dX11_isLast_153 (tgt := 197) (by decide) (fun c18 => ?_) (fun c18 => ?_)
  · have h := it_ h c18
    refine r_iload C 3 dX11_isLast_197 rfl ?_
    obtain ⟨u19, eu19, h⟩ := bs h
    cases h
    exact r_zret C (bz2_ok eu19) hK dX11_isLast_199
  · have h := ie_ h c18
    refine r_iload C 3 dX11_isLast_156 rfl ?_
    refine r_if_eq C dX11_isLast_158 (tgt := 197) (by decide) (fun c20 => ?_) (fun c20 => ?_)
    · have h := it_ h c20
      refine r_iload C 3 dX11_isLast_197 rfl ?_
      obtain ⟨u21, eu21, h⟩ := bs h
      cases h
      exact r_zret C (bz2_ok eu21) hK dX11_isLast_199
    · have h := ie_ h c20
      refine r_aload_n C 0 dX11_isLast_161 rfl rfl ?_
      refine r_bipush C dX11_isLast_162 (by decide) ?_
      refine r_iload C 4 dX11_isLast_164 rfl ?_
      obtain ⟨u23, eu23, h⟩ := bs h
      obtain ⟨q22, eq22, h⟩ := bs h
      refine r_callV C (As := [vI 42, vI x5]) (b := a0) (rest := []) (st1 := [vI q22.1]) (v := some (vI q22.1)) (r := (RX11, TX11, 38)) (ci := 9) rfl eu23 (m_X11_of C.tr eq22) (lw_V q1629 q1631 qs70 q133 q1632) rfl hdX11_of rfl rfl (Nat.le_of_ble_eq_true rfl) ⟨by decide, by decide⟩ dX11_isLast_166 rfl ?_
      refine r_aload_n C 0 dX11_isLast_169 rfl rfl ?_
      refine r_iload_n C 2 dX11_isLast_170 rfl rfl ?_
      refine r_aload_n C 0 dX11_isLast_171 rfl rfl ?_
      refine r_iload_n C 1 dX11_isLast_172 rfl rfl ?_
      refine r_iload C 4 dX11_isLast_173 rfl ?_
      obtain ⟨u25, eu25, h⟩ := bs h
      obtain ⟨q24, eq24, h⟩ := bs h
      refine r_callV C (As := [vI x2, vI x5]) (b := a0) (rest := [vI x3, vO a0, vI q22.1]) (st1 := [vI q24.1, vI x3, vO a0, vI q22.1]) (v := some (vI q24.1)) (r := (RX11, TX11, 38)) (ci := 9) rfl eu25 (m_X11_powerAt C.tr eq24) (lw_V q1855 q1857 qs106 q133 q1858) rfl hdX11_powerAt rfl rfl (Nat.le_of_ble_eq_true rfl) ⟨by decide, by decide⟩ dX11_isLast_175 rfl ?_
      obtain ⟨u27, eu27, h⟩ := bs h
      obtain ⟨q26, eq26, h⟩ := bs h
      refine r_callV C (As := [vI x3, vI q24.1]) (b := a0) (rest := [vI q22.1]) (st1 := [vI q26.1, vI q22.1]) (v := some (vI q26.1)) (r := (RX11, TX11, 38)) (ci := 9) rfl eu27 (m_X11_times C.tr eq26) (lw_V q1541 q1543 qs54 q133 q1544) rfl hdX11_times rfl rfl (Nat.le_of_ble_eq_true rfl) ⟨by decide, by decide⟩ dX11_isLast_178 rfl ?_
      refine r_icmp_ne C dX11_isLast_181 (tgt := 188) (by decide) (fun c28 => ?_) (fun c28 => ?_)
      · have h := ie_ h c28
        refine r_iconst C dX11_isLast_188 ?_
        refine r_istore C [(4, vI 0), (0, vO a0), (2, vI x2), (3, vI x3), (5, vI x5)] dX11_isLast_189 (by decide) rfl ?_
        refine r_iinc C 4 [(5, vI (x5 + 1)), (4, vI 0), (0, vO a0), (2, vI x2), (3, vI x3)] dX11_isLast_191 rfl (by decide) rfl ?_
        refine r_goto C dX11_isLast_194 (tgt := 144) (by decide) ?_
        cases h
        refine r_sub [2, 3, 4, 1, 0] rfl ?_
        exact hK
      · have h := it_ h c28
        refine r_iconst C dX11_isLast_184 ?_
        refine r_goto C dX11_isLast_185 (tgt := 189) (by decide) ?_
        refine r_istore C [(4, vI 1), (0, vO a0), (2, vI x2), (3, vI x3), (5, vI x5)] dX11_isLast_189 (by decide) rfl ?_
        refine r_iinc C 4 [(5, vI (x5 + 1)), (4, vI 1), (0, vO a0), (2, vI x2), (3, vI x3)] dX11_isLast_191 rfl (by decide) rfl ?_
        refine r_goto C dX11_isLast_194 (tgt := 144) (by decide) ?_
        cases h
        refine r_sub [2, 3, 4, 1, 0] rfl ?_
        exact hK
noncomputable def s_X11_isLast_l144 (a0 : Nat) (x2 : Int) (x3 : Int) (x4 : Int) (x5 : Int) (μ : Me) : Option (Int × Me) :=
  whileO (fun s : Int × Int × Me => s_X11_isLast_l144_st a0 x2 x3 s.1 s.2.1 s.2.2) (x4, x5, μ)
theorem e_X11_isLast_l144 (a0 : Nat) (x2 : Int) (x3 : Int) (x4 : Int) (x5 : Int) (μ : Me) : s_X11_isLast_l144 a0 x2 x3 x4 x5 μ = (s_X11_isLast_l144_st a0 x2 x3 x4 x5 μ).bind fun x => x.elim (fun s : Int × Int × Me => s_X11_isLast_l144 a0 x2 x3 s.1 s.2.1 s.2.2) some := whileO_eq _ _
theorem w_X11_isLast_l144 {Z : Zt} {fin : Int × Me} {w : (Int × Me)} (C : CX Z yX11_isLast cX11_isLast (some .boolean) 3 6) {a0 : Nat} {x2 : Int} {x3 : Int} {x4 : Int} {x5 : Int} {μ : Me} (h : s_X11_isLast_l144 a0 x2 x3 x4 x5 μ = some w) (hK : (fun r : Int × Me => r = fin) w) : WL Z (QN Z (some (vI fin.1)) fin.2) μ 144 [(0, vO a0), (2, vI x2), (3, vI x3), (4, vI x4), (5, vI x5)] [] := by
  refine whileO_walk (w := w) (fun s : Int × Int × Me => WL Z (QN Z (some (vI fin.1)) fin.2) s.2.2 144 [(0, vO a0), (2, vI x2), (3, vI x3), (4, vI s.1), (5, vI s.2.1)] []) (fun s v h2 hi hr => ?_) (x4, x5, μ) h
  refine w_X11_isLast_l144_st (fin := fin) C h2 ?_
  cases v with
  | inl s2 => exact hi s2 rfl
  | inr r => have e := hr r rfl; subst e; exact hK
noncomputable def s_X11_isLast_b122 (a0 : Nat) (x1 : Int) (x2 : Int) (t0 : Int) (μ : Me) : Option (Int × Me) :=
  (gR μ 9 a0 28).bind fun v13 =>
  (uI μ v13 x1 t0).bind fun m14 =>
  (if w32 t0 = 0 then
  s_X11_isLast_l144 a0 x2 t0 0 0 m14
  else
  s_X11_isLast_l144 a0 x2 t0 1 0 m14)
theorem w_X11_isLast_b122 {Z : Zt} {fin : Int × Me} {w : (Int × Me)} (C : CX Z yX11_isLast cX11_isLast (some .boolean) 3 6) {a0 : Nat} {x1 : Int} {x2 : Int} {t0 : Int} {μ : Me} (h : s_X11_isLast_b122 a0 x1 x2 t0 μ = some w) (hK : (fun r : Int × Me => r = fin) w) : WL Z (QN Z (some (vI fin.1)) fin.2) μ 122 [(0, vO a0), (1, vI x1), (2, vI x2)] [vI t0] := by
  unfold s_X11_isLast_b122 at h
  refine r_istore_n C [(3, vI t0), (0, vO a0), (1, vI x1), (2, vI x2)] dX11_isLast_122 rfl (by decide) rfl ?_
  refine r_aload_n C 1 dX11_isLast_123 rfl rfl ?_
  obtain ⟨v13, ev13, h⟩ := bs h
  refine r_getR C (c := 9) (r := (RX11, TX11, 38)) rfl 28 (by decide) rfl ev13 q1341 dX11_isLast_124 ?_
  refine r_iload_n C 2 dX11_isLast_127 rfl rfl ?_
  refine r_iload_n C 0 dX11_isLast_128 rfl rfl ?_
  obtain ⟨m14, em14, h⟩ := bs h
  refine r_iast C em14 dX11_isLast_129 ?_
  refine r_iload_n C 0 dX11_isLast_130 rfl rfl ?_
  refine r_if_eq C dX11_isLast_131 (tgt := 138) (by decide) (fun c15 => ?_) (fun c15 => ?_)
  · have h := it_ h c15
    refine r_iconst C dX11_isLast_138 ?_
    refine r_istore C [(4, vI 0), (3, vI t0), (0, vO a0), (1, vI x1), (2, vI x2)] dX11_isLast_139 (by decide) rfl ?_
    refine r_iconst C dX11_isLast_141 ?_
    refine r_istore C [(5, vI 0), (4, vI 0), (3, vI t0), (0, vO a0), (1, vI x1), (2, vI x2)] dX11_isLast_142 (by decide) rfl ?_
    refine r_sub [3, 5, 2, 1, 0] rfl ?_
    exact w_X11_isLast_l144 (fin := fin) C h hK
  · have h := ie_ h c15
    refine r_iconst C dX11_isLast_134 ?_
    refine r_goto C dX11_isLast_135 (tgt := 139) (by decide) ?_
    refine r_istore C [(4, vI 1), (3, vI t0), (0, vO a0), (1, vI x1), (2, vI x2)] dX11_isLast_139 (by decide) rfl ?_
    refine r_iconst C dX11_isLast_141 ?_
    refine r_istore C [(5, vI 0), (4, vI 1), (3, vI t0), (0, vO a0), (1, vI x1), (2, vI x2)] dX11_isLast_142 (by decide) rfl ?_
    refine r_sub [3, 5, 2, 1, 0] rfl ?_
    exact w_X11_isLast_l144 (fin := fin) C h hK
noncomputable def s_X11_isLast_b91 (a0 : Nat) (x1 : Int) (x2 : Int)  (μ : Me) : Option (Int × Me) :=
  (ck μ 9 a0).bind fun _ =>
  (s_X11_p a0  μ).bind fun q6 =>
  (if w32 q6.1 ≤ w32 x2 then
  (gR q6.2 9 a0 4).bind fun v9 =>
  (aI q6.2 101 v9 42).bind fun v10 =>
  (ck q6.2 9 a0).bind fun _ =>
  (s_X11_of a0 42 v10 q6.2).bind fun q11 =>
  s_X11_isLast_b122 a0 x1 x2 q11.1 q11.2
  else
  (ck q6.2 9 a0).bind fun _ =>
  (s_X11_of a0 42 0 q6.2).bind fun q29 =>
  s_X11_isLast_b122 a0 x1 x2 q29.1 q29.2)
theorem w_X11_isLast_b91 {Z : Zt} {fin : Int × Me} {w : (Int × Me)} (C : CX Z yX11_isLast cX11_isLast (some .boolean) 3 6) {a0 : Nat} {x1 : Int} {x2 : Int}  {μ : Me} (h : s_X11_isLast_b91 a0 x1 x2 μ = some w) (hK : (fun r : Int × Me => r = fin) w) : WL Z (QN Z (some (vI fin.1)) fin.2) μ 91 [(0, vO a0), (1, vI x1), (2, vI x2)] [] := by
  unfold s_X11_isLast_b91 at h
  refine r_iload_n C 2 dX11_isLast_91 rfl rfl ?_
  refine r_aload_n C 0 dX11_isLast_92 rfl rfl ?_
  obtain ⟨u7, eu7, h⟩ := bs h
  obtain ⟨q6, eq6, h⟩ := bs h
  refine r_callV C (As := []) (b := a0) (rest := [vI x2]) (st1 := [vI q6.1, vI x2]) (v := some (vI q6.1)) (r := (RX11, TX11, 38)) (ci := 9) rfl eu7 (m_X11_p C.tr eq6) (lw_V q1522 q1524 qs51 q133 q1525) rfl hdX11_p rfl rfl (Nat.le_of_ble_eq_true rfl) ⟨by decide, by decide⟩ dX11_isLast_93 rfl ?_
  refine r_icmp_ge C dX11_isLast_96 (tgt := 109) (by decide) (fun c8 => ?_) (fun c8 => ?_)
  · have h := it_ h c8
    refine r_aload_n C 0 dX11_isLast_109 rfl rfl ?_
    refine r_bipush C dX11_isLast_110 (by decide) ?_
    refine r_aload_n C 0 dX11_isLast_112 rfl rfl ?_
    obtain ⟨v9, ev9, h⟩ := bs h
    refine r_getR C (c := 9) (r := (RX11, TX11, 38)) rfl 4 (by decide) rfl ev9 q1317 dX11_isLast_113 ?_
    refine r_bipush C dX11_isLast_116 (by decide) ?_
    obtain ⟨v10, ev10, h⟩ := bs h
    refine r_iald C ev10 dX11_isLast_118 ?_
    obtain ⟨u12, eu12, h⟩ := bs h
    obtain ⟨q11, eq11, h⟩ := bs h
    refine r_callV C (As := [vI 42, vI v10]) (b := a0) (rest := []) (st1 := [vI q11.1]) (v := some (vI q11.1)) (r := (RX11, TX11, 38)) (ci := 9) rfl eu12 (m_X11_of C.tr eq11) (lw_V q1629 q1631 qs70 q133 q1632) rfl hdX11_of rfl rfl (Nat.le_of_ble_eq_true rfl) ⟨by decide, by decide⟩ dX11_isLast_119 rfl ?_
    exact w_X11_isLast_b122 (fin := fin) C h hK
  · have h := ie_ h c8
    refine r_aload_n C 0 dX11_isLast_99 rfl rfl ?_
    refine r_bipush C dX11_isLast_100 (by decide) ?_
    refine r_iconst C dX11_isLast_102 ?_
    obtain ⟨u30, eu30, h⟩ := bs h
    obtain ⟨q29, eq29, h⟩ := bs h
    refine r_callV C (As := [vI 42, vI 0]) (b := a0) (rest := []) (st1 := [vI q29.1]) (v := some (vI q29.1)) (r := (RX11, TX11, 38)) (ci := 9) rfl eu30 (m_X11_of C.tr eq29) (lw_V q1629 q1631 qs70 q133 q1632) rfl hdX11_of rfl rfl (Nat.le_of_ble_eq_true rfl) ⟨by decide, by decide⟩ dX11_isLast_103 rfl ?_
    refine r_goto C dX11_isLast_106 (tgt := 122) (by decide) ?_
    exact w_X11_isLast_b122 (fin := fin) C h hK
noncomputable def s_X11_isLast_l25_st (a0 : Nat) (x1 : Int) (x2 : Int) (x3 : Int) (x4 : Int) (μ : Me) : Option ((Int × Me) ⊕ ((Int × Me) ⊕ (Int × Me))) :=
  (gR μ 9 a0 4).bind fun v31 =>
  (aI μ 101 v31 42).bind fun v32 =>
  (if w32 v32 < w32 x4 then
  some (.inr (.inl ((x3 + 1), μ)))
  else
  (ck μ 9 a0).bind fun _ =>
  (s_X11_of a0 42 x4 μ).bind fun q34 =>
  (gR q34.2 9 a0 28).bind fun v36 =>
  (aI q34.2 101 v36 x3).bind fun v37 =>
  (gR q34.2 9 a0 27).bind fun v38 =>
  (aI q34.2 101 v38 x3).bind fun v39 =>
  (ck q34.2 9 a0).bind fun _ =>
  (s_X11_powerAt a0 v39 x4 q34.2).bind fun q40 =>
  (ck q40.2 9 a0).bind fun _ =>
  (s_X11_times a0 v37 q40.1 q40.2).bind fun q42 =>
  (ck q42.2 9 a0).bind fun _ =>
  (s_X11_less a0 q34.1 q42.1 q42.2).bind fun q44 =>
  (ck q44.2 9 a0).bind fun _ =>
  (s_X11_put a0 42 x4 q44.1 q44.2).bind fun q46 =>
  some (.inl ((x4 + 1), q46)))
theorem w_X11_isLast_l25_st {Z : Zt} {fin : Int × Me} {w : ((Int × Me) ⊕ ((Int × Me) ⊕ (Int × Me)))} (C : CX Z yX11_isLast cX11_isLast (some .boolean) 3 6) {a0 : Nat} {x1 : Int} {x2 : Int} {x3 : Int} {x4 : Int} {μ : Me} (h : s_X11_isLast_l25_st a0 x1 x2 x3 x4 μ = some w) (hK : (Sum.elim (fun s : Int × Me => WL Z (QN Z (some (vI fin.1)) fin.2) s.2 25 [(0, vO a0), (1, vI x1), (2, vI x2), (3, vI x3), (4, vI s.1)] []) (Sum.elim (fun s : Int × Me => WL Z (QN Z (some (vI fin.1)) fin.2) s.2 17 [(0, vO a0), (1, vI x1), (2, vI x2), (3, vI s.1)] []) (fun r : Int × Me => r = fin))) w) : WL Z (QN Z (some (vI fin.1)) fin.2) μ 25 [(0, vO a0), (1, vI x1), (2, vI x2), (3, vI x3), (4, vI x4)] [] := by
  unfold s_X11_isLast_l25_st at h
  refine r_iload C 4 dX11_isLast_25 rfl ?_
  refine r_aload_n C 0 dX11_isLast_27 rfl rfl ?_
  obtain ⟨v31, ev31, h⟩ := bs h
  refine r_getR C (c := 9) (r := (RX11, TX11, 38)) rfl 4 (by decide) rfl ev31 q1317 dX11_isLast_28 ?_
  refine r_bipush C dX11_isLast_31 (by decide) ?_
  obtain ⟨v32, ev32, h⟩ := bs h
  refine r_iald C ev32 dX11_isLast_33 ?_
  refine r_icmp_gt C dX11_isLast_34 (tgt := 85) (by decide) (fun c33 => ?_) (fun c33 => ?_)
  · have h := it_ h c33
    refine r_iinc C 3 [(3, vI (x3 + 1)), (0, vO a0), (1, vI x1), (2, vI x2), (4, vI x4)] dX11_isLast_85 rfl (by decide) rfl ?_
    refine r_goto C dX11_isLast_88 (tgt := 17) (by decide) ?_
    cases h
    refine r_sub [1, 2, 3, 0] rfl ?_
    exact hK
  · have h := ie_ h c33
    refine r_aload_n C 0 dX11_isLast_37 rfl rfl ?_
    refine r_bipush C dX11_isLast_38 (by decide) ?_
    refine r_iload C 4 dX11_isLast_40 rfl ?_
    refine r_aload_n C 0 dX11_isLast_42 rfl rfl ?_
    refine r_aload_n C 0 dX11_isLast_43 rfl rfl ?_
    refine r_bipush C dX11_isLast_44 (by decide) ?_
    refine r_iload C 4 dX11_isLast_46 rfl ?_
    obtain ⟨u35, eu35, h⟩ := bs h
    obtain ⟨q34, eq34, h⟩ := bs h
    refine r_callV C (As := [vI 42, vI x4]) (b := a0) (rest := [vO a0, vI x4, vI 42, vO a0]) (st1 := [vI q34.1, vO a0, vI x4, vI 42, vO a0]) (v := some (vI q34.1)) (r := (RX11, TX11, 38)) (ci := 9) rfl eu35 (m_X11_of C.tr eq34) (lw_V q1629 q1631 qs70 q133 q1632) rfl hdX11_of rfl rfl (Nat.le_of_ble_eq_true rfl) ⟨by decide, by decide⟩ dX11_isLast_48 rfl ?_
    refine r_aload_n C 0 dX11_isLast_51 rfl rfl ?_
    refine r_aload_n C 0 dX11_isLast_52 rfl rfl ?_
    obtain ⟨v36, ev36, h⟩ := bs h
    refine r_getR C (c := 9) (r := (RX11, TX11, 38)) rfl 28 (by decide) rfl ev36 q1341 dX11_isLast_53 ?_
    refine r_iload_n C 3 dX11_isLast_56 rfl rfl ?_
    obtain ⟨v37, ev37, h⟩ := bs h
    refine r_iald C ev37 dX11_isLast_57 ?_
    refine r_aload_n C 0 dX11_isLast_58 rfl rfl ?_
    refine r_aload_n C 0 dX11_isLast_59 rfl rfl ?_
    obtain ⟨v38, ev38, h⟩ := bs h
    refine r_getR C (c := 9) (r := (RX11, TX11, 38)) rfl 27 (by decide) rfl ev38 q1340 dX11_isLast_60 ?_
    refine r_iload_n C 3 dX11_isLast_63 rfl rfl ?_
    obtain ⟨v39, ev39, h⟩ := bs h
    refine r_iald C ev39 dX11_isLast_64 ?_
    refine r_iload C 4 dX11_isLast_65 rfl ?_
    obtain ⟨u41, eu41, h⟩ := bs h
    obtain ⟨q40, eq40, h⟩ := bs h
    refine r_callV C (As := [vI v39, vI x4]) (b := a0) (rest := [vI v37, vO a0, vI q34.1, vO a0, vI x4, vI 42, vO a0]) (st1 := [vI q40.1, vI v37, vO a0, vI q34.1, vO a0, vI x4, vI 42, vO a0]) (v := some (vI q40.1)) (r := (RX11, TX11, 38)) (ci := 9) rfl eu41 (m_X11_powerAt C.tr eq40) (lw_V q1855 q1857 qs106 q133 q1858) rfl hdX11_powerAt rfl rfl (Nat.le_of_ble_eq_true rfl) ⟨by decide, by decide⟩ dX11_isLast_67 rfl ?_
    obtain ⟨u43, eu43, h⟩ := bs h
    obtain ⟨q42, eq42, h⟩ := bs h
    refine r_callV C (As := [vI v37, vI q40.1]) (b := a0) (rest := [vI q34.1, vO a0, vI x4, vI 42, vO a0]) (st1 := [vI q42.1, vI q34.1, vO a0, vI x4, vI 42, vO a0]) (v := some (vI q42.1)) (r := (RX11, TX11, 38)) (ci := 9) rfl eu43 (m_X11_times C.tr eq42) (lw_V q1541 q1543 qs54 q133 q1544) rfl hdX11_times rfl rfl (Nat.le_of_ble_eq_true rfl) ⟨by decide, by decide⟩ dX11_isLast_70 rfl ?_
    obtain ⟨u45, eu45, h⟩ := bs h
    obtain ⟨q44, eq44, h⟩ := bs h
    refine r_callV C (As := [vI q34.1, vI q42.1]) (b := a0) (rest := [vI x4, vI 42, vO a0]) (st1 := [vI q44.1, vI x4, vI 42, vO a0]) (v := some (vI q44.1)) (r := (RX11, TX11, 38)) (ci := 9) rfl eu45 (m_X11_less C.tr eq44) (lw_V q1545 q1547 qs55 q133 q1548) rfl hdX11_less rfl rfl (Nat.le_of_ble_eq_true rfl) ⟨by decide, by decide⟩ dX11_isLast_73 rfl ?_
    obtain ⟨u47, eu47, h⟩ := bs h
    obtain ⟨q46, eq46, h⟩ := bs h
    refine r_callV C (As := [vI 42, vI x4, vI q44.1]) (b := a0) (rest := []) (st1 := []) (v := none) (r := (RX11, TX11, 38)) (ci := 9) rfl eu47 (m_X11_put C.tr eq46) (lw_V q1621 q1623 qs68 q133 q1624) rfl hdX11_put rfl rfl (Nat.le_of_ble_eq_true rfl) ⟨by decide, by decide⟩ dX11_isLast_76 rfl ?_
    refine r_iinc C 4 [(4, vI (x4 + 1)), (0, vO a0), (1, vI x1), (2, vI x2), (3, vI x3)] dX11_isLast_79 rfl (by decide) rfl ?_
    refine r_goto C dX11_isLast_82 (tgt := 25) (by decide) ?_
    cases h
    refine r_sub [1, 2, 3, 4, 0] rfl ?_
    exact hK
noncomputable def s_X11_isLast_l25 (a0 : Nat) (x1 : Int) (x2 : Int) (x3 : Int) (x4 : Int) (μ : Me) : Option ((Int × Me) ⊕ (Int × Me)) :=
  whileO (fun s : Int × Me => s_X11_isLast_l25_st a0 x1 x2 x3 s.1 s.2) (x4, μ)
theorem e_X11_isLast_l25 (a0 : Nat) (x1 : Int) (x2 : Int) (x3 : Int) (x4 : Int) (μ : Me) : s_X11_isLast_l25 a0 x1 x2 x3 x4 μ = (s_X11_isLast_l25_st a0 x1 x2 x3 x4 μ).bind fun x => x.elim (fun s : Int × Me => s_X11_isLast_l25 a0 x1 x2 x3 s.1 s.2) some := whileO_eq _ _
theorem w_X11_isLast_l25 {Z : Zt} {fin : Int × Me} {w : ((Int × Me) ⊕ (Int × Me))} (C : CX Z yX11_isLast cX11_isLast (some .boolean) 3 6) {a0 : Nat} {x1 : Int} {x2 : Int} {x3 : Int} {x4 : Int} {μ : Me} (h : s_X11_isLast_l25 a0 x1 x2 x3 x4 μ = some w) (hK : (Sum.elim (fun s : Int × Me => WL Z (QN Z (some (vI fin.1)) fin.2) s.2 17 [(0, vO a0), (1, vI x1), (2, vI x2), (3, vI s.1)] []) (fun r : Int × Me => r = fin)) w) : WL Z (QN Z (some (vI fin.1)) fin.2) μ 25 [(0, vO a0), (1, vI x1), (2, vI x2), (3, vI x3), (4, vI x4)] [] := by
  refine whileO_walk (w := w) (fun s : Int × Me => WL Z (QN Z (some (vI fin.1)) fin.2) s.2 25 [(0, vO a0), (1, vI x1), (2, vI x2), (3, vI x3), (4, vI s.1)] []) (fun s v h2 hi hr => ?_) (x4, μ) h
  refine w_X11_isLast_l25_st (fin := fin) C h2 ?_
  cases v with
  | inl s2 => exact hi s2 rfl
  | inr r => have e := hr r rfl; subst e; exact hK
noncomputable def s_X11_isLast_l17_st (a0 : Nat) (x1 : Int) (x2 : Int) (x3 : Int) (μ : Me) : Option ((Int × Me) ⊕ (Int × Me)) :=
  (if w32 x1 ≤ w32 x3 then
  (s_X11_isLast_b91 a0 x1 x2 μ).map Sum.inr
  else
  s_X11_isLast_l25 a0 x1 x2 x3 0 μ)
theorem w_X11_isLast_l17_st {Z : Zt} {fin : Int × Me} {w : ((Int × Me) ⊕ (Int × Me))} (C : CX Z yX11_isLast cX11_isLast (some .boolean) 3 6) {a0 : Nat} {x1 : Int} {x2 : Int} {x3 : Int} {μ : Me} (h : s_X11_isLast_l17_st a0 x1 x2 x3 μ = some w) (hK : (Sum.elim (fun s : Int × Me => WL Z (QN Z (some (vI fin.1)) fin.2) s.2 17 [(0, vO a0), (1, vI x1), (2, vI x2), (3, vI s.1)] []) (fun r : Int × Me => r = fin)) w) : WL Z (QN Z (some (vI fin.1)) fin.2) μ 17 [(0, vO a0), (1, vI x1), (2, vI x2), (3, vI x3)] [] := by
  unfold s_X11_isLast_l17_st at h
  refine r_iload_n C 3 dX11_isLast_17 rfl rfl ?_
  refine r_iload_n C 1 dX11_isLast_18 rfl rfl ?_
  refine r_icmp_ge C dX11_isLast_19 (tgt := 91) (by decide) (fun c5 => ?_) (fun c5 => ?_)
  · have h := it_ h c5
    obtain ⟨z, hz, ez⟩ := ms_ h; clear h; subst ez; have h := hz; clear hz
    refine r_sub [0, 1, 2] rfl ?_
    exact w_X11_isLast_b91 (fin := fin) C h hK
  · have h := ie_ h c5
    refine r_iconst C dX11_isLast_22 ?_
    refine r_istore C [(4, vI 0), (0, vO a0), (1, vI x1), (2, vI x2), (3, vI x3)] dX11_isLast_23 (by decide) rfl ?_
    refine r_sub [1, 2, 3, 4, 0] rfl ?_
    exact w_X11_isLast_l25 (fin := fin) C h hK
noncomputable def s_X11_isLast_l17 (a0 : Nat) (x1 : Int) (x2 : Int) (x3 : Int) (μ : Me) : Option (Int × Me) :=
  whileO (fun s : Int × Me => s_X11_isLast_l17_st a0 x1 x2 s.1 s.2) (x3, μ)
theorem e_X11_isLast_l17 (a0 : Nat) (x1 : Int) (x2 : Int) (x3 : Int) (μ : Me) : s_X11_isLast_l17 a0 x1 x2 x3 μ = (s_X11_isLast_l17_st a0 x1 x2 x3 μ).bind fun x => x.elim (fun s : Int × Me => s_X11_isLast_l17 a0 x1 x2 s.1 s.2) some := whileO_eq _ _
theorem w_X11_isLast_l17 {Z : Zt} {fin : Int × Me} {w : (Int × Me)} (C : CX Z yX11_isLast cX11_isLast (some .boolean) 3 6) {a0 : Nat} {x1 : Int} {x2 : Int} {x3 : Int} {μ : Me} (h : s_X11_isLast_l17 a0 x1 x2 x3 μ = some w) (hK : (fun r : Int × Me => r = fin) w) : WL Z (QN Z (some (vI fin.1)) fin.2) μ 17 [(0, vO a0), (1, vI x1), (2, vI x2), (3, vI x3)] [] := by
  refine whileO_walk (w := w) (fun s : Int × Me => WL Z (QN Z (some (vI fin.1)) fin.2) s.2 17 [(0, vO a0), (1, vI x1), (2, vI x2), (3, vI s.1)] []) (fun s v h2 hi hr => ?_) (x3, μ) h
  refine w_X11_isLast_l17_st (fin := fin) C h2 ?_
  cases v with
  | inl s2 => exact hi s2 rfl
  | inr r => have e := hr r rfl; subst e; exact hK
noncomputable def s_X11_isLast (a0 : Nat) (x1 : Int) (μ : Me) : Option (Int × Me) :=
  (gR μ 9 a0 27).bind fun v1 =>
  (aI μ 101 v1 x1).bind fun v2 =>
  (ck μ 9 a0).bind fun _ =>
  (s_X11_copies a0 40 42 μ).bind fun q3 =>
  s_X11_isLast_l17 a0 x1 v2 0 q3
theorem w_X11_isLast {Z : Zt} {fin : Int × Me} {w : Int × Me} (C : CX Z yX11_isLast cX11_isLast (some .boolean) 3 6) {a0 : Nat} {x1 : Int} {μ : Me} (h : s_X11_isLast a0 x1 μ = some w) (hK : w = fin) : WL Z (QN Z (some (vI fin.1)) fin.2) μ 0 [(0, vO a0), (1, vI x1)] [] := by
  unfold s_X11_isLast at h
  refine r_aload_n C 0 dX11_isLast_0 rfl rfl ?_
  obtain ⟨v1, ev1, h⟩ := bs h
  refine r_getR C (c := 9) (r := (RX11, TX11, 38)) rfl 27 (by decide) rfl ev1 q1340 dX11_isLast_1 ?_
  refine r_iload_n C 1 dX11_isLast_4 rfl rfl ?_
  obtain ⟨v2, ev2, h⟩ := bs h
  refine r_iald C ev2 dX11_isLast_5 ?_
  refine r_istore_n C [(2, vI v2), (0, vO a0), (1, vI x1)] dX11_isLast_6 rfl (by decide) rfl ?_
  refine r_aload_n C 1 dX11_isLast_7 rfl rfl ?_
  refine r_bipush C dX11_isLast_8 (by decide) ?_
  refine r_bipush C dX11_isLast_10 (by decide) ?_
  obtain ⟨u4, eu4, h⟩ := bs h
  obtain ⟨q3, eq3, h⟩ := bs h
  refine r_callV C (As := [vI 40, vI 42]) (b := a0) (rest := []) (st1 := []) (v := none) (r := (RX11, TX11, 38)) (ci := 9) rfl eu4 (m_X11_copies C.tr eq3) (lw_V q1689 q1691 qs81 q133 q1692) rfl hdX11_copies rfl rfl (Nat.le_of_ble_eq_true rfl) ⟨by decide, by decide⟩ dX11_isLast_12 rfl ?_
  refine r_iconst C dX11_isLast_15 ?_
  refine r_istore_n C [(3, vI 0), (2, vI v2), (0, vO a0), (1, vI x1)] dX11_isLast_16 rfl (by decide) rfl ?_
  refine r_sub [2, 3, 1, 0] rfl ?_
  exact w_X11_isLast_l17 (fin := fin) C h hK
theorem hdX11_isLast : zhd yX11_isLast 1 := by decide +kernel
theorem m_X11_isLast {l : Launch} {D : va_G} {b0 : Nat} (hl : l.stackTraces = false) {a0 : Nat} {x1 : Int} {μ : Me} {w : Int × Me} (h : s_X11_isLast a0 x1 μ = some w) : MN l D b0 yX11_isLast (ws_ yX11_isLast cX11_isLast 6 (some .boolean)) 3 [vO a0, vI x1] μ (some (vI w.1)) w.2 :=
  MN.of hl (by decide +kernel) (Nat.le_of_ble_eq_true rfl) (fun Z C _ _ => w_X11_isLast C h rfl)
noncomputable def s_X11_isPair_l2_st (a0 : Nat) (x1 : Int) (x2 : Int) (μ : Me) : Option ((Int × Me) ⊕ (Int × Me)) :=
  (ck μ 9 a0).bind fun _ =>
  (s_X11_p a0  μ).bind fun q1 =>
  (if w32 q1.1 ≤ w32 x2 then
  some (.inr (0, q1.2))
  else
  (gR q1.2 9 a0 28).bind fun v4 =>
  (uI q1.2 v4 (x1 - 1) x2).bind fun m5 =>
  (ck m5 9 a0).bind fun _ =>
  (s_X11_isLast a0 x1 m5).bind fun q6 =>
  (if w32 q6.1 = 0 then
  some (.inl ((x2 + 1), q6.2))
  else
  some (.inr (1, q6.2))))
theorem w_X11_isPair_l2_st {Z : Zt} {fin : Int × Me} {w : ((Int × Me) ⊕ (Int × Me))} (C : CX Z yX11_isPair cX11_isPair (some .boolean) 4 3) {a0 : Nat} {x1 : Int} {x2 : Int} {μ : Me} (h : s_X11_isPair_l2_st a0 x1 x2 μ = some w) (hK : (Sum.elim (fun s : Int × Me => WL Z (QN Z (some (vI fin.1)) fin.2) s.2 2 [(0, vO a0), (1, vI x1), (2, vI s.1)] []) (fun r : Int × Me => r = fin)) w) : WL Z (QN Z (some (vI fin.1)) fin.2) μ 2 [(0, vO a0), (1, vI x1), (2, vI x2)] [] := by
  unfold s_X11_isPair_l2_st at h
  refine r_iload_n C 2 dX11_isPair_2 rfl rfl ?_
  refine r_aload_n C 0 dX11_isPair_3 rfl rfl ?_
  obtain ⟨u2, eu2, h⟩ := bs h
  obtain ⟨q1, eq1, h⟩ := bs h
  refine r_callV C (As := []) (b := a0) (rest := [vI x2]) (st1 := [vI q1.1, vI x2]) (v := some (vI q1.1)) (r := (RX11, TX11, 38)) (ci := 9) rfl eu2 (m_X11_p C.tr eq1) (lw_V q1522 q1524 qs51 q133 q1525) rfl hdX11_p rfl rfl (Nat.le_of_ble_eq_true rfl) ⟨by decide, by decide⟩ dX11_isPair_4 rfl ?_
  refine r_icmp_ge C dX11_isPair_7 (tgt := 35) (by decide) (fun c3 => ?_) (fun c3 => ?_)
  · have h := it_ h c3
    refine r_iconst C dX11_isPair_35 ?_
    cases h
    exact r_zret C (Or.inl rfl) hK dX11_isPair_36
  · have h := ie_ h c3
    refine r_aload_n C 0 dX11_isPair_10 rfl rfl ?_
    obtain ⟨v4, ev4, h⟩ := bs h
    refine r_getR C (c := 9) (r := (RX11, TX11, 38)) rfl 28 (by decide) rfl ev4 q1341 dX11_isPair_11 ?_
    refine r_iload_n C 1 dX11_isPair_14 rfl rfl ?_
    refine r_iconst C dX11_isPair_15 ?_
    refine r_isub C dX11_isPair_16 ?_
    refine r_iload_n C 2 dX11_isPair_17 rfl rfl ?_
    obtain ⟨m5, em5, h⟩ := bs h
    refine r_iast C em5 dX11_isPair_18 ?_
    refine r_aload_n C 0 dX11_isPair_19 rfl rfl ?_
    refine r_iload_n C 1 dX11_isPair_20 rfl rfl ?_
    obtain ⟨u7, eu7, h⟩ := bs h
    obtain ⟨q6, eq6, h⟩ := bs h
    refine r_callV C (As := [vI x1]) (b := a0) (rest := []) (st1 := [vI q6.1]) (v := some (vI q6.1)) (r := (RX11, TX11, 38)) (ci := 9) rfl eu7 (m_X11_isLast C.tr eq6) (lw_V q1851 q1853 qs105 q133 q1854) rfl hdX11_isLast rfl rfl (Nat.le_of_ble_eq_true rfl) ⟨by decide, by decide⟩ dX11_isPair_21 rfl ?_
    refine r_if_eq C dX11_isPair_24 (tgt := 29) (by decide) (fun c8 => ?_) (fun c8 => ?_)
    · have h := it_ h c8
      refine r_iinc C 2 [(2, vI (x2 + 1)), (0, vO a0), (1, vI x1)] dX11_isPair_29 rfl (by decide) rfl ?_
      refine r_goto C dX11_isPair_32 (tgt := 2) (by decide) ?_
      cases h
      refine r_sub [1, 2, 0] rfl ?_
      exact hK
    · have h := ie_ h c8
      refine r_iconst C dX11_isPair_27 ?_
      cases h
      exact r_zret C (Or.inr rfl) hK dX11_isPair_28
noncomputable def s_X11_isPair_l2 (a0 : Nat) (x1 : Int) (x2 : Int) (μ : Me) : Option (Int × Me) :=
  whileO (fun s : Int × Me => s_X11_isPair_l2_st a0 x1 s.1 s.2) (x2, μ)
theorem e_X11_isPair_l2 (a0 : Nat) (x1 : Int) (x2 : Int) (μ : Me) : s_X11_isPair_l2 a0 x1 x2 μ = (s_X11_isPair_l2_st a0 x1 x2 μ).bind fun x => x.elim (fun s : Int × Me => s_X11_isPair_l2 a0 x1 s.1 s.2) some := whileO_eq _ _
theorem w_X11_isPair_l2 {Z : Zt} {fin : Int × Me} {w : (Int × Me)} (C : CX Z yX11_isPair cX11_isPair (some .boolean) 4 3) {a0 : Nat} {x1 : Int} {x2 : Int} {μ : Me} (h : s_X11_isPair_l2 a0 x1 x2 μ = some w) (hK : (fun r : Int × Me => r = fin) w) : WL Z (QN Z (some (vI fin.1)) fin.2) μ 2 [(0, vO a0), (1, vI x1), (2, vI x2)] [] := by
  refine whileO_walk (w := w) (fun s : Int × Me => WL Z (QN Z (some (vI fin.1)) fin.2) s.2 2 [(0, vO a0), (1, vI x1), (2, vI s.1)] []) (fun s v h2 hi hr => ?_) (x2, μ) h
  refine w_X11_isPair_l2_st (fin := fin) C h2 ?_
  cases v with
  | inl s2 => exact hi s2 rfl
  | inr r => have e := hr r rfl; subst e; exact hK
noncomputable def s_X11_isPair (a0 : Nat) (x1 : Int) (μ : Me) : Option (Int × Me) :=
  s_X11_isPair_l2 a0 x1 1 μ
theorem w_X11_isPair {Z : Zt} {fin : Int × Me} {w : Int × Me} (C : CX Z yX11_isPair cX11_isPair (some .boolean) 4 3) {a0 : Nat} {x1 : Int} {μ : Me} (h : s_X11_isPair a0 x1 μ = some w) (hK : w = fin) : WL Z (QN Z (some (vI fin.1)) fin.2) μ 0 [(0, vO a0), (1, vI x1)] [] := by
  unfold s_X11_isPair at h
  refine r_iconst C dX11_isPair_0 ?_
  refine r_istore_n C [(2, vI 1), (0, vO a0), (1, vI x1)] dX11_isPair_1 rfl (by decide) rfl ?_
  refine r_sub [1, 2, 0] rfl ?_
  exact w_X11_isPair_l2 (fin := fin) C h hK
theorem hdX11_isPair : zhd yX11_isPair 1 := by decide +kernel
theorem m_X11_isPair {l : Launch} {D : va_G} {b0 : Nat} (hl : l.stackTraces = false) {a0 : Nat} {x1 : Int} {μ : Me} {w : Int × Me} (h : s_X11_isPair a0 x1 μ = some w) : MN l D b0 yX11_isPair (ws_ yX11_isPair cX11_isPair 3 (some .boolean)) 4 [vO a0, vI x1] μ (some (vI w.1)) w.2 :=
  MN.of hl (by decide +kernel) (Nat.le_of_ble_eq_true rfl) (fun Z C _ _ => w_X11_isPair C h rfl)
noncomputable def s_X11_isTriple_l2_st (a0 : Nat) (x1 : Int) (μ : Me) : Option ((Int × Me) ⊕ (Int × Me)) :=
  (ck μ 9 a0).bind fun _ =>
  (s_X11_p a0  μ).bind fun q1 =>
  (if w32 q1.1 ≤ w32 x1 then
  some (.inr (0, q1.2))
  else
  (gR q1.2 9 a0 28).bind fun v4 =>
  (uI q1.2 v4 0 x1).bind fun m5 =>
  (ck m5 9 a0).bind fun _ =>
  (s_X11_isPair a0 2 m5).bind fun q6 =>
  (if w32 q6.1 = 0 then
  some (.inl ((x1 + 1), q6.2))
  else
  some (.inr (1, q6.2))))
theorem w_X11_isTriple_l2_st {Z : Zt} {fin : Int × Me} {w : ((Int × Me) ⊕ (Int × Me))} (C : CX Z yX11_isTriple cX11_isTriple (some .boolean) 5 2) {a0 : Nat} {x1 : Int} {μ : Me} (h : s_X11_isTriple_l2_st a0 x1 μ = some w) (hK : (Sum.elim (fun s : Int × Me => WL Z (QN Z (some (vI fin.1)) fin.2) s.2 2 [(0, vO a0), (1, vI s.1)] []) (fun r : Int × Me => r = fin)) w) : WL Z (QN Z (some (vI fin.1)) fin.2) μ 2 [(0, vO a0), (1, vI x1)] [] := by
  unfold s_X11_isTriple_l2_st at h
  refine r_iload_n C 1 dX11_isTriple_2 rfl rfl ?_
  refine r_aload_n C 0 dX11_isTriple_3 rfl rfl ?_
  obtain ⟨u2, eu2, h⟩ := bs h
  obtain ⟨q1, eq1, h⟩ := bs h
  refine r_callV C (As := []) (b := a0) (rest := [vI x1]) (st1 := [vI q1.1, vI x1]) (v := some (vI q1.1)) (r := (RX11, TX11, 38)) (ci := 9) rfl eu2 (m_X11_p C.tr eq1) (lw_V q1522 q1524 qs51 q133 q1525) rfl hdX11_p rfl rfl (Nat.le_of_ble_eq_true rfl) ⟨by decide, by decide⟩ dX11_isTriple_4 rfl ?_
  refine r_icmp_ge C dX11_isTriple_7 (tgt := 33) (by decide) (fun c3 => ?_) (fun c3 => ?_)
  · have h := it_ h c3
    refine r_iconst C dX11_isTriple_33 ?_
    cases h
    exact r_zret C (Or.inl rfl) hK dX11_isTriple_34
  · have h := ie_ h c3
    refine r_aload_n C 0 dX11_isTriple_10 rfl rfl ?_
    obtain ⟨v4, ev4, h⟩ := bs h
    refine r_getR C (c := 9) (r := (RX11, TX11, 38)) rfl 28 (by decide) rfl ev4 q1341 dX11_isTriple_11 ?_
    refine r_iconst C dX11_isTriple_14 ?_
    refine r_iload_n C 1 dX11_isTriple_15 rfl rfl ?_
    obtain ⟨m5, em5, h⟩ := bs h
    refine r_iast C em5 dX11_isTriple_16 ?_
    refine r_aload_n C 0 dX11_isTriple_17 rfl rfl ?_
    refine r_iconst C dX11_isTriple_18 ?_
    obtain ⟨u7, eu7, h⟩ := bs h
    obtain ⟨q6, eq6, h⟩ := bs h
    refine r_callV C (As := [vI 2]) (b := a0) (rest := []) (st1 := [vI q6.1]) (v := some (vI q6.1)) (r := (RX11, TX11, 38)) (ci := 9) rfl eu7 (m_X11_isPair C.tr eq6) (lw_V q1859 q1861 qs107 q133 q1862) rfl hdX11_isPair rfl rfl (Nat.le_of_ble_eq_true rfl) ⟨by decide, by decide⟩ dX11_isTriple_19 rfl ?_
    refine r_if_eq C dX11_isTriple_22 (tgt := 27) (by decide) (fun c8 => ?_) (fun c8 => ?_)
    · have h := it_ h c8
      refine r_iinc C 1 [(1, vI (x1 + 1)), (0, vO a0)] dX11_isTriple_27 rfl (by decide) rfl ?_
      refine r_goto C dX11_isTriple_30 (tgt := 2) (by decide) ?_
      cases h
      refine r_sub [1, 0] rfl ?_
      exact hK
    · have h := ie_ h c8
      refine r_iconst C dX11_isTriple_25 ?_
      cases h
      exact r_zret C (Or.inr rfl) hK dX11_isTriple_26
noncomputable def s_X11_isTriple_l2 (a0 : Nat) (x1 : Int) (μ : Me) : Option (Int × Me) :=
  whileO (fun s : Int × Me => s_X11_isTriple_l2_st a0 s.1 s.2) (x1, μ)
theorem e_X11_isTriple_l2 (a0 : Nat) (x1 : Int) (μ : Me) : s_X11_isTriple_l2 a0 x1 μ = (s_X11_isTriple_l2_st a0 x1 μ).bind fun x => x.elim (fun s : Int × Me => s_X11_isTriple_l2 a0 s.1 s.2) some := whileO_eq _ _
theorem w_X11_isTriple_l2 {Z : Zt} {fin : Int × Me} {w : (Int × Me)} (C : CX Z yX11_isTriple cX11_isTriple (some .boolean) 5 2) {a0 : Nat} {x1 : Int} {μ : Me} (h : s_X11_isTriple_l2 a0 x1 μ = some w) (hK : (fun r : Int × Me => r = fin) w) : WL Z (QN Z (some (vI fin.1)) fin.2) μ 2 [(0, vO a0), (1, vI x1)] [] := by
  refine whileO_walk (w := w) (fun s : Int × Me => WL Z (QN Z (some (vI fin.1)) fin.2) s.2 2 [(0, vO a0), (1, vI s.1)] []) (fun s v h2 hi hr => ?_) (x1, μ) h
  refine w_X11_isTriple_l2_st (fin := fin) C h2 ?_
  cases v with
  | inl s2 => exact hi s2 rfl
  | inr r => have e := hr r rfl; subst e; exact hK
noncomputable def s_X11_isTriple (a0 : Nat) (μ : Me) : Option (Int × Me) :=
  s_X11_isTriple_l2 a0 1 μ
theorem w_X11_isTriple {Z : Zt} {fin : Int × Me} {w : Int × Me} (C : CX Z yX11_isTriple cX11_isTriple (some .boolean) 5 2) {a0 : Nat} {μ : Me} (h : s_X11_isTriple a0 μ = some w) (hK : w = fin) : WL Z (QN Z (some (vI fin.1)) fin.2) μ 0 [(0, vO a0)] [] := by
  unfold s_X11_isTriple at h
  refine r_iconst C dX11_isTriple_0 ?_
  refine r_istore_n C [(1, vI 1), (0, vO a0)] dX11_isTriple_1 rfl (by decide) rfl ?_
  refine r_sub [1, 0] rfl ?_
  exact w_X11_isTriple_l2 (fin := fin) C h hK
theorem hdX11_isTriple : zhd yX11_isTriple 0 := by decide +kernel
theorem m_X11_isTriple {l : Launch} {D : va_G} {b0 : Nat} (hl : l.stackTraces = false) {a0 : Nat} {μ : Me} {w : Int × Me} (h : s_X11_isTriple a0 μ = some w) : MN l D b0 yX11_isTriple (ws_ yX11_isTriple cX11_isTriple 2 (some .boolean)) 5 [vO a0] μ (some (vI w.1)) w.2 :=
  MN.of hl (by decide +kernel) (Nat.le_of_ble_eq_true rfl) (fun Z C _ _ => w_X11_isTriple C h rfl)
noncomputable def s_X11_isSum_l71_st (a0 : Nat) (x1 : Int) (x2 : Int) (x3 : Int) (x4 : Int) (μ : Me) : Option ((Int × Me) ⊕ ((Int × Me) ⊕ ((Int × Me) ⊕ (Int × Me)))) :=
  (ck μ 9 a0).bind fun _ =>
  (s_X11_p a0  μ).bind fun q13 =>
  (if w32 q13.1 < w32 x4 then
  some (.inr (.inl ((x3 + 1), q13.2)))
  else
  (if w32 x1 = w32 3 then
  (gR q13.2 9 a0 27).bind fun v17 =>
  (uI q13.2 v17 2 x4).bind fun m18 =>
  (ck m18 9 a0).bind fun _ =>
  (s_X11_isTriple a0  m18).bind fun q19 =>
  (if w32 q19.1 = 0 then
  some (.inl ((x4 + 1), q19.2))
  else
  some (.inr (.inr (.inr (1, q19.2)))))
  else
  some (.inr (.inl ((x3 + 1), q13.2)))))
theorem w_X11_isSum_l71_st {Z : Zt} {fin : Int × Me} {w : ((Int × Me) ⊕ ((Int × Me) ⊕ ((Int × Me) ⊕ (Int × Me))))} (C : CX Z yX11_isSum cX11_isSum (some .boolean) 6 5) {a0 : Nat} {x1 : Int} {x2 : Int} {x3 : Int} {x4 : Int} {μ : Me} (h : s_X11_isSum_l71_st a0 x1 x2 x3 x4 μ = some w) (hK : (Sum.elim (fun s : Int × Me => WL Z (QN Z (some (vI fin.1)) fin.2) s.2 71 [(0, vO a0), (1, vI x1), (2, vI x2), (3, vI x3), (4, vI s.1)] []) (Sum.elim (fun s : Int × Me => WL Z (QN Z (some (vI fin.1)) fin.2) s.2 36 [(0, vO a0), (1, vI x1), (2, vI x2), (3, vI s.1)] []) (Sum.elim (fun s : Int × Me => WL Z (QN Z (some (vI fin.1)) fin.2) s.2 2 [(0, vO a0), (1, vI x1), (2, vI s.1)] []) (fun r : Int × Me => r = fin)))) w) : WL Z (QN Z (some (vI fin.1)) fin.2) μ 71 [(0, vO a0), (1, vI x1), (2, vI x2), (3, vI x3), (4, vI x4)] [] := by
  unfold s_X11_isSum_l71_st at h
  refine r_iload C 4 dX11_isSum_71 rfl ?_
  refine r_aload_n C 0 dX11_isSum_73 rfl rfl ?_
  obtain ⟨u14, eu14, h⟩ := bs h
  obtain ⟨q13, eq13, h⟩ := bs h
  refine r_callV C (As := []) (b := a0) (rest := [vI x4]) (st1 := [vI q13.1, vI x4]) (v := some (vI q13.1)) (r := (RX11, TX11, 38)) (ci := 9) rfl eu14 (m_X11_p C.tr eq13) (lw_V q1522 q1524 qs51 q133 q1525) rfl hdX11_p rfl rfl (Nat.le_of_ble_eq_true rfl) ⟨by decide, by decide⟩ dX11_isSum_74 rfl ?_
  refine r_icmp_gt C dX11_isSum_77 (tgt := 108) (by decide) (fun c15 => ?_) (fun c15 => ?_)
  · have h := it_ h c15
    refine r_iinc C 3 [(3, vI (x3 + 1)), (0, vO a0), (1, vI x1), (2, vI x2), (4, vI x4)] dX11_isSum_108 rfl (by decide) rfl ?_
    refine r_goto C dX11_isSum_111 (tgt := 36) (by decide) ?_
    cases h
    refine r_sub [1, 2, 3, 0] rfl ?_
    exact hK
  · have h := ie_ h c15
    refine r_iload_n C 1 dX11_isSum_80 rfl rfl ?_
    refine r_iconst C dX11_isSum_81 ?_
    refine r_icmp_ne C dX11_isSum_82 (tgt := 108) (by decide) (fun c16 => ?_) (fun c16 => ?_)
    · have h := ie_ h c16
      refine r_iinc C 3 [(3, vI (x3 + 1)), (0, vO a0), (1, vI x1), (2, vI x2), (4, vI x4)] dX11_isSum_108 rfl (by decide) rfl ?_
      refine r_goto C dX11_isSum_111 (tgt := 36) (by decide) ?_
      cases h
      refine r_sub [1, 2, 3, 0] rfl ?_
      exact hK
    · have h := it_ h c16
      refine r_aload_n C 0 dX11_isSum_85 rfl rfl ?_
      obtain ⟨v17, ev17, h⟩ := bs h
      refine r_getR C (c := 9) (r := (RX11, TX11, 38)) rfl 27 (by decide) rfl ev17 q1340 dX11_isSum_86 ?_
      refine r_iconst C dX11_isSum_89 ?_
      refine r_iload C 4 dX11_isSum_90 rfl ?_
      obtain ⟨m18, em18, h⟩ := bs h
      refine r_iast C em18 dX11_isSum_92 ?_
      refine r_aload_n C 0 dX11_isSum_93 rfl rfl ?_
      obtain ⟨u20, eu20, h⟩ := bs h
      obtain ⟨q19, eq19, h⟩ := bs h
      refine r_callV C (As := []) (b := a0) (rest := []) (st1 := [vI q19.1]) (v := some (vI q19.1)) (r := (RX11, TX11, 38)) (ci := 9) rfl eu20 (m_X11_isTriple C.tr eq19) (lw_V q1863 q1865 qs108 q133 q1866) rfl hdX11_isTriple rfl rfl (Nat.le_of_ble_eq_true rfl) ⟨by decide, by decide⟩ dX11_isSum_94 rfl ?_
      refine r_if_eq C dX11_isSum_97 (tgt := 102) (by decide) (fun c21 => ?_) (fun c21 => ?_)
      · have h := it_ h c21
        refine r_iinc C 4 [(4, vI (x4 + 1)), (0, vO a0), (1, vI x1), (2, vI x2), (3, vI x3)] dX11_isSum_102 rfl (by decide) rfl ?_
        refine r_goto C dX11_isSum_105 (tgt := 71) (by decide) ?_
        cases h
        refine r_sub [1, 2, 3, 4, 0] rfl ?_
        exact hK
      · have h := ie_ h c21
        refine r_iconst C dX11_isSum_100 ?_
        cases h
        exact r_zret C (Or.inr rfl) hK dX11_isSum_101
noncomputable def s_X11_isSum_l71 (a0 : Nat) (x1 : Int) (x2 : Int) (x3 : Int) (x4 : Int) (μ : Me) : Option ((Int × Me) ⊕ ((Int × Me) ⊕ (Int × Me))) :=
  whileO (fun s : Int × Me => s_X11_isSum_l71_st a0 x1 x2 x3 s.1 s.2) (x4, μ)
theorem e_X11_isSum_l71 (a0 : Nat) (x1 : Int) (x2 : Int) (x3 : Int) (x4 : Int) (μ : Me) : s_X11_isSum_l71 a0 x1 x2 x3 x4 μ = (s_X11_isSum_l71_st a0 x1 x2 x3 x4 μ).bind fun x => x.elim (fun s : Int × Me => s_X11_isSum_l71 a0 x1 x2 x3 s.1 s.2) some := whileO_eq _ _
theorem w_X11_isSum_l71 {Z : Zt} {fin : Int × Me} {w : ((Int × Me) ⊕ ((Int × Me) ⊕ (Int × Me)))} (C : CX Z yX11_isSum cX11_isSum (some .boolean) 6 5) {a0 : Nat} {x1 : Int} {x2 : Int} {x3 : Int} {x4 : Int} {μ : Me} (h : s_X11_isSum_l71 a0 x1 x2 x3 x4 μ = some w) (hK : (Sum.elim (fun s : Int × Me => WL Z (QN Z (some (vI fin.1)) fin.2) s.2 36 [(0, vO a0), (1, vI x1), (2, vI x2), (3, vI s.1)] []) (Sum.elim (fun s : Int × Me => WL Z (QN Z (some (vI fin.1)) fin.2) s.2 2 [(0, vO a0), (1, vI x1), (2, vI s.1)] []) (fun r : Int × Me => r = fin))) w) : WL Z (QN Z (some (vI fin.1)) fin.2) μ 71 [(0, vO a0), (1, vI x1), (2, vI x2), (3, vI x3), (4, vI x4)] [] := by
  refine whileO_walk (w := w) (fun s : Int × Me => WL Z (QN Z (some (vI fin.1)) fin.2) s.2 71 [(0, vO a0), (1, vI x1), (2, vI x2), (3, vI x3), (4, vI s.1)] []) (fun s v h2 hi hr => ?_) (x4, μ) h
  refine w_X11_isSum_l71_st (fin := fin) C h2 ?_
  cases v with
  | inl s2 => exact hi s2 rfl
  | inr r => have e := hr r rfl; subst e; exact hK
noncomputable def s_X11_isSum_l36_st (a0 : Nat) (x1 : Int) (x2 : Int) (x3 : Int) (μ : Me) : Option ((Int × Me) ⊕ ((Int × Me) ⊕ (Int × Me))) :=
  (ck μ 9 a0).bind fun _ =>
  (s_X11_p a0  μ).bind fun q7 =>
  (if w32 q7.1 < w32 x3 then
  some (.inr (.inl ((x2 + 1), q7.2)))
  else
  (gR q7.2 9 a0 27).bind fun v10 =>
  (uI q7.2 v10 1 x3).bind fun m11 =>
  (if w32 x1 = w32 2 then
  (ck m11 9 a0).bind fun _ =>
  (s_X11_isPair a0 1 m11).bind fun q22 =>
  (if w32 q22.1 = 0 then
  s_X11_isSum_l71 a0 x1 x2 x3 (x3 + 1) q22.2
  else
  some (.inr (.inr (1, q22.2))))
  else
  s_X11_isSum_l71 a0 x1 x2 x3 (x3 + 1) m11))
theorem w_X11_isSum_l36_st {Z : Zt} {fin : Int × Me} {w : ((Int × Me) ⊕ ((Int × Me) ⊕ (Int × Me)))} (C : CX Z yX11_isSum cX11_isSum (some .boolean) 6 5) {a0 : Nat} {x1 : Int} {x2 : Int} {x3 : Int} {μ : Me} (h : s_X11_isSum_l36_st a0 x1 x2 x3 μ = some w) (hK : (Sum.elim (fun s : Int × Me => WL Z (QN Z (some (vI fin.1)) fin.2) s.2 36 [(0, vO a0), (1, vI x1), (2, vI x2), (3, vI s.1)] []) (Sum.elim (fun s : Int × Me => WL Z (QN Z (some (vI fin.1)) fin.2) s.2 2 [(0, vO a0), (1, vI x1), (2, vI s.1)] []) (fun r : Int × Me => r = fin))) w) : WL Z (QN Z (some (vI fin.1)) fin.2) μ 36 [(0, vO a0), (1, vI x1), (2, vI x2), (3, vI x3)] [] := by
  unfold s_X11_isSum_l36_st at h
  refine r_iload_n C 3 dX11_isSum_36 rfl rfl ?_
  refine r_aload_n C 0 dX11_isSum_37 rfl rfl ?_
  obtain ⟨u8, eu8, h⟩ := bs h
  obtain ⟨q7, eq7, h⟩ := bs h
  refine r_callV C (As := []) (b := a0) (rest := [vI x3]) (st1 := [vI q7.1, vI x3]) (v := some (vI q7.1)) (r := (RX11, TX11, 38)) (ci := 9) rfl eu8 (m_X11_p C.tr eq7) (lw_V q1522 q1524 qs51 q133 q1525) rfl hdX11_p rfl rfl (Nat.le_of_ble_eq_true rfl) ⟨by decide, by decide⟩ dX11_isSum_38 rfl ?_
  refine r_icmp_gt C dX11_isSum_41 (tgt := 114) (by decide) (fun c9 => ?_) (fun c9 => ?_)
  · have h := it_ h c9
    refine r_iinc C 2 [(2, vI (x2 + 1)), (0, vO a0), (1, vI x1), (3, vI x3)] dX11_isSum_114 rfl (by decide) rfl ?_
    refine r_goto C dX11_isSum_117 (tgt := 2) (by decide) ?_
    cases h
    refine r_sub [1, 2, 0] rfl ?_
    exact hK
  · have h := ie_ h c9
    refine r_aload_n C 0 dX11_isSum_44 rfl rfl ?_
    obtain ⟨v10, ev10, h⟩ := bs h
    refine r_getR C (c := 9) (r := (RX11, TX11, 38)) rfl 27 (by decide) rfl ev10 q1340 dX11_isSum_45 ?_
    refine r_iconst C dX11_isSum_48 ?_
    refine r_iload_n C 3 dX11_isSum_49 rfl rfl ?_
    obtain ⟨m11, em11, h⟩ := bs h
    refine r_iast C em11 dX11_isSum_50 ?_
    refine r_iload_n C 1 dX11_isSum_51 rfl rfl ?_
    refine r_iconst C dX11_isSum_52 ?_
    refine r_icmp_ne C dX11_isSum_53 (tgt := 66) (by decide) (fun c12 => ?_) (fun c12 => ?_)
    · have h := ie_ h c12
      refine r_iload_n C 3 dX11_isSum_66 rfl rfl ?_
      refine r_iconst C dX11_isSum_67 ?_
      refine r_iadd C dX11_isSum_68 ?_
      refine r_istore C [(4, vI (x3 + 1)), (0, vO a0), (1, vI x1), (2, vI x2), (3, vI x3)] dX11_isSum_69 (by decide) rfl ?_
      refine r_sub [1, 2, 3, 4, 0] rfl ?_
      exact w_X11_isSum_l71 (fin := fin) C h hK
    · have h := it_ h c12
      refine r_aload_n C 0 dX11_isSum_56 rfl rfl ?_
      refine r_iconst C dX11_isSum_57 ?_
      obtain ⟨u23, eu23, h⟩ := bs h
      obtain ⟨q22, eq22, h⟩ := bs h
      refine r_callV C (As := [vI 1]) (b := a0) (rest := []) (st1 := [vI q22.1]) (v := some (vI q22.1)) (r := (RX11, TX11, 38)) (ci := 9) rfl eu23 (m_X11_isPair C.tr eq22) (lw_V q1859 q1861 qs107 q133 q1862) rfl hdX11_isPair rfl rfl (Nat.le_of_ble_eq_true rfl) ⟨by decide, by decide⟩ dX11_isSum_58 rfl ?_
      refine r_if_eq C dX11_isSum_61 (tgt := 66) (by decide) (fun c24 => ?_) (fun c24 => ?_)
      · have h := it_ h c24
        refine r_iload_n C 3 dX11_isSum_66 rfl rfl ?_
        refine r_iconst C dX11_isSum_67 ?_
        refine r_iadd C dX11_isSum_68 ?_
        refine r_istore C [(4, vI (x3 + 1)), (0, vO a0), (1, vI x1), (2, vI x2), (3, vI x3)] dX11_isSum_69 (by decide) rfl ?_
        refine r_sub [1, 2, 3, 4, 0] rfl ?_
        exact w_X11_isSum_l71 (fin := fin) C h hK
      · have h := ie_ h c24
        refine r_iconst C dX11_isSum_64 ?_
        cases h
        exact r_zret C (Or.inr rfl) hK dX11_isSum_65
noncomputable def s_X11_isSum_l36 (a0 : Nat) (x1 : Int) (x2 : Int) (x3 : Int) (μ : Me) : Option ((Int × Me) ⊕ (Int × Me)) :=
  whileO (fun s : Int × Me => s_X11_isSum_l36_st a0 x1 x2 s.1 s.2) (x3, μ)
theorem e_X11_isSum_l36 (a0 : Nat) (x1 : Int) (x2 : Int) (x3 : Int) (μ : Me) : s_X11_isSum_l36 a0 x1 x2 x3 μ = (s_X11_isSum_l36_st a0 x1 x2 x3 μ).bind fun x => x.elim (fun s : Int × Me => s_X11_isSum_l36 a0 x1 x2 s.1 s.2) some := whileO_eq _ _
theorem w_X11_isSum_l36 {Z : Zt} {fin : Int × Me} {w : ((Int × Me) ⊕ (Int × Me))} (C : CX Z yX11_isSum cX11_isSum (some .boolean) 6 5) {a0 : Nat} {x1 : Int} {x2 : Int} {x3 : Int} {μ : Me} (h : s_X11_isSum_l36 a0 x1 x2 x3 μ = some w) (hK : (Sum.elim (fun s : Int × Me => WL Z (QN Z (some (vI fin.1)) fin.2) s.2 2 [(0, vO a0), (1, vI x1), (2, vI s.1)] []) (fun r : Int × Me => r = fin)) w) : WL Z (QN Z (some (vI fin.1)) fin.2) μ 36 [(0, vO a0), (1, vI x1), (2, vI x2), (3, vI x3)] [] := by
  refine whileO_walk (w := w) (fun s : Int × Me => WL Z (QN Z (some (vI fin.1)) fin.2) s.2 36 [(0, vO a0), (1, vI x1), (2, vI x2), (3, vI s.1)] []) (fun s v h2 hi hr => ?_) (x3, μ) h
  refine w_X11_isSum_l36_st (fin := fin) C h2 ?_
  cases v with
  | inl s2 => exact hi s2 rfl
  | inr r => have e := hr r rfl; subst e; exact hK
noncomputable def s_X11_isSum_l2_st (a0 : Nat) (x1 : Int) (x2 : Int) (μ : Me) : Option ((Int × Me) ⊕ (Int × Me)) :=
  (ck μ 9 a0).bind fun _ =>
  (s_X11_p a0  μ).bind fun q1 =>
  (if w32 q1.1 < w32 x2 then
  some (.inr (0, q1.2))
  else
  (gR q1.2 9 a0 27).bind fun v4 =>
  (uI q1.2 v4 0 x2).bind fun m5 =>
  (if w32 x1 = w32 1 then
  (ck m5 9 a0).bind fun _ =>
  (s_X11_isLast a0 0 m5).bind fun q25 =>
  (if w32 q25.1 = 0 then
  some (.inl ((x2 + 1), q25.2))
  else
  some (.inr (1, q25.2)))
  else
  s_X11_isSum_l36 a0 x1 x2 (x2 + 1) m5))
theorem w_X11_isSum_l2_st {Z : Zt} {fin : Int × Me} {w : ((Int × Me) ⊕ (Int × Me))} (C : CX Z yX11_isSum cX11_isSum (some .boolean) 6 5) {a0 : Nat} {x1 : Int} {x2 : Int} {μ : Me} (h : s_X11_isSum_l2_st a0 x1 x2 μ = some w) (hK : (Sum.elim (fun s : Int × Me => WL Z (QN Z (some (vI fin.1)) fin.2) s.2 2 [(0, vO a0), (1, vI x1), (2, vI s.1)] []) (fun r : Int × Me => r = fin)) w) : WL Z (QN Z (some (vI fin.1)) fin.2) μ 2 [(0, vO a0), (1, vI x1), (2, vI x2)] [] := by
  unfold s_X11_isSum_l2_st at h
  refine r_iload_n C 2 dX11_isSum_2 rfl rfl ?_
  refine r_aload_n C 0 dX11_isSum_3 rfl rfl ?_
  obtain ⟨u2, eu2, h⟩ := bs h
  obtain ⟨q1, eq1, h⟩ := bs h
  refine r_callV C (As := []) (b := a0) (rest := [vI x2]) (st1 := [vI q1.1, vI x2]) (v := some (vI q1.1)) (r := (RX11, TX11, 38)) (ci := 9) rfl eu2 (m_X11_p C.tr eq1) (lw_V q1522 q1524 qs51 q133 q1525) rfl hdX11_p rfl rfl (Nat.le_of_ble_eq_true rfl) ⟨by decide, by decide⟩ dX11_isSum_4 rfl ?_
  refine r_icmp_gt C dX11_isSum_7 (tgt := 120) (by decide) (fun c3 => ?_) (fun c3 => ?_)
  · have h := it_ h c3
    refine r_iconst C dX11_isSum_120 ?_
    cases h
    exact r_zret C (Or.inl rfl) hK dX11_isSum_121
  · have h := ie_ h c3
    refine r_aload_n C 0 dX11_isSum_10 rfl rfl ?_
    obtain ⟨v4, ev4, h⟩ := bs h
    refine r_getR C (c := 9) (r := (RX11, TX11, 38)) rfl 27 (by decide) rfl ev4 q1340 dX11_isSum_11 ?_
    refine r_iconst C dX11_isSum_14 ?_
    refine r_iload_n C 2 dX11_isSum_15 rfl rfl ?_
    obtain ⟨m5, em5, h⟩ := bs h
    refine r_iast C em5 dX11_isSum_16 ?_
    refine r_iload_n C 1 dX11_isSum_17 rfl rfl ?_
    refine r_iconst C dX11_isSum_18 ?_
    refine r_icmp_ne C dX11_isSum_19 (tgt := 32) (by decide) (fun c6 => ?_) (fun c6 => ?_)
    · have h := ie_ h c6
      refine r_iload_n C 2 dX11_isSum_32 rfl rfl ?_
      refine r_iconst C dX11_isSum_33 ?_
      refine r_iadd C dX11_isSum_34 ?_
      refine r_istore_n C [(3, vI (x2 + 1)), (0, vO a0), (1, vI x1), (2, vI x2)] dX11_isSum_35 rfl (by decide) rfl ?_
      refine r_sub [1, 2, 3, 0] rfl ?_
      exact w_X11_isSum_l36 (fin := fin) C h hK
    · have h := it_ h c6
      refine r_aload_n C 0 dX11_isSum_22 rfl rfl ?_
      refine r_iconst C dX11_isSum_23 ?_
      obtain ⟨u26, eu26, h⟩ := bs h
      obtain ⟨q25, eq25, h⟩ := bs h
      refine r_callV C (As := [vI 0]) (b := a0) (rest := []) (st1 := [vI q25.1]) (v := some (vI q25.1)) (r := (RX11, TX11, 38)) (ci := 9) rfl eu26 (m_X11_isLast C.tr eq25) (lw_V q1851 q1853 qs105 q133 q1854) rfl hdX11_isLast rfl rfl (Nat.le_of_ble_eq_true rfl) ⟨by decide, by decide⟩ dX11_isSum_24 rfl ?_
      refine r_if_eq C dX11_isSum_27 (tgt := 114) (by decide) (fun c27 => ?_) (fun c27 => ?_)
      · have h := it_ h c27
        refine r_iinc C 2 [(2, vI (x2 + 1)), (0, vO a0), (1, vI x1)] dX11_isSum_114 rfl (by decide) rfl ?_
        refine r_goto C dX11_isSum_117 (tgt := 2) (by decide) ?_
        cases h
        refine r_sub [1, 2, 0] rfl ?_
        exact hK
      · have h := ie_ h c27
        refine r_iconst C dX11_isSum_30 ?_
        cases h
        exact r_zret C (Or.inr rfl) hK dX11_isSum_31
noncomputable def s_X11_isSum_l2 (a0 : Nat) (x1 : Int) (x2 : Int) (μ : Me) : Option (Int × Me) :=
  whileO (fun s : Int × Me => s_X11_isSum_l2_st a0 x1 s.1 s.2) (x2, μ)
theorem e_X11_isSum_l2 (a0 : Nat) (x1 : Int) (x2 : Int) (μ : Me) : s_X11_isSum_l2 a0 x1 x2 μ = (s_X11_isSum_l2_st a0 x1 x2 μ).bind fun x => x.elim (fun s : Int × Me => s_X11_isSum_l2 a0 x1 s.1 s.2) some := whileO_eq _ _
theorem w_X11_isSum_l2 {Z : Zt} {fin : Int × Me} {w : (Int × Me)} (C : CX Z yX11_isSum cX11_isSum (some .boolean) 6 5) {a0 : Nat} {x1 : Int} {x2 : Int} {μ : Me} (h : s_X11_isSum_l2 a0 x1 x2 μ = some w) (hK : (fun r : Int × Me => r = fin) w) : WL Z (QN Z (some (vI fin.1)) fin.2) μ 2 [(0, vO a0), (1, vI x1), (2, vI x2)] [] := by
  refine whileO_walk (w := w) (fun s : Int × Me => WL Z (QN Z (some (vI fin.1)) fin.2) s.2 2 [(0, vO a0), (1, vI x1), (2, vI s.1)] []) (fun s v h2 hi hr => ?_) (x2, μ) h
  refine w_X11_isSum_l2_st (fin := fin) C h2 ?_
  cases v with
  | inl s2 => exact hi s2 rfl
  | inr r => have e := hr r rfl; subst e; exact hK
noncomputable def s_X11_isSum (a0 : Nat) (x1 : Int) (μ : Me) : Option (Int × Me) :=
  s_X11_isSum_l2 a0 x1 0 μ
theorem w_X11_isSum {Z : Zt} {fin : Int × Me} {w : Int × Me} (C : CX Z yX11_isSum cX11_isSum (some .boolean) 6 5) {a0 : Nat} {x1 : Int} {μ : Me} (h : s_X11_isSum a0 x1 μ = some w) (hK : w = fin) : WL Z (QN Z (some (vI fin.1)) fin.2) μ 0 [(0, vO a0), (1, vI x1)] [] := by
  unfold s_X11_isSum at h
  refine r_iconst C dX11_isSum_0 ?_
  refine r_istore_n C [(2, vI 0), (0, vO a0), (1, vI x1)] dX11_isSum_1 rfl (by decide) rfl ?_
  refine r_sub [1, 2, 0] rfl ?_
  exact w_X11_isSum_l2 (fin := fin) C h hK
theorem hdX11_isSum : zhd yX11_isSum 1 := by decide +kernel
theorem m_X11_isSum {l : Launch} {D : va_G} {b0 : Nat} (hl : l.stackTraces = false) {a0 : Nat} {x1 : Int} {μ : Me} {w : Int × Me} (h : s_X11_isSum a0 x1 μ = some w) : MN l D b0 yX11_isSum (ws_ yX11_isSum cX11_isSum 5 (some .boolean)) 6 [vO a0, vI x1] μ (some (vI w.1)) w.2 :=
  MN.of hl (by decide +kernel) (Nat.le_of_ble_eq_true rfl) (fun Z C _ _ => w_X11_isSum C h rfl)
noncomputable def s_X11_powers_b121 (a0 : Nat) (x2 : Int)  (μ : Me) : Option (Int × Me) :=
  (gI μ 9 a0 29).bind fun v25 =>
  (if w32 v25 ≤ w32 3 then
  (if 0 ≤ w32 x2 then
  (gI μ 9 a0 29).bind fun v28 =>
  (s_X11_in x2 0 (v28 - 1) μ).bind fun q29 =>
  (if w32 q29.1 = 0 then
  (gI q29.2 9 a0 29).bind fun v31 =>
  (s_X11_in (x2 - 10) 0 (v31 - 1) q29.2).bind fun q32 =>
  (if w32 q32.1 = 0 then
  some ((-1), q32.2)
  else
  (gR q32.2 9 a0 28).bind fun v34 =>
  (aI q32.2 101 v34 (x2 - 10)).bind fun v35 =>
  some (v35, q32.2))
  else
  (gR q29.2 9 a0 27).bind fun v36 =>
  (aI q29.2 101 v36 x2).bind fun v37 =>
  some (v37, q29.2))
  else
  (gI μ 9 a0 29).bind fun v38 =>
  some (v38, μ))
  else
  some ((-1), μ))
theorem w_X11_powers_b121 {Z : Zt} {fin : Int × Me} {w : (Int × Me)} (C : CX Z yX11_powers cX11_powers (some .int) 7 3) {a0 : Nat} {x2 : Int}  {μ : Me} (h : s_X11_powers_b121 a0 x2 μ = some w) (hK : (fun r : Int × Me => r = fin) w) : WL Z (QN Z (some (vI fin.1)) fin.2) μ 121 [(0, vO a0), (2, vI x2)] [] := by
  unfold s_X11_powers_b121 at h
  refine r_aload_n C 0 dX11_powers_121 rfl rfl ?_
  obtain ⟨v25, ev25, h⟩ := bs h
  refine r_getI C (c := 9) (r := (RX11, TX11, 38)) rfl 29 (by decide) rfl ev25 q1342 dX11_powers_122 ?_
  refine r_iconst C dX11_powers_125 ?_
  refine r_icmp_le C dX11_powers_126 (tgt := 131) (by decide) (fun c26 => ?_) (fun c26 => ?_)
  · have h := it_ h c26
    refine r_iload_n C 1 dX11_powers_131 rfl rfl ?_
    refine r_if_ge C dX11_powers_132 (tgt := 140) (by decide) (fun c27 => ?_) (fun c27 => ?_)
    · have h := it_ h c27
      refine r_iload_n C 1 dX11_powers_140 rfl rfl ?_
      refine r_iconst C dX11_powers_141 ?_
      refine r_aload_n C 0 dX11_powers_142 rfl rfl ?_
      obtain ⟨v28, ev28, h⟩ := bs h
      refine r_getI C (c := 9) (r := (RX11, TX11, 38)) rfl 29 (by decide) rfl ev28 q1342 dX11_powers_143 ?_
      refine r_iconst C dX11_powers_146 ?_
      refine r_isub C dX11_powers_147 ?_
      obtain ⟨q29, eq29, h⟩ := bs h
      refine r_callS C (As := [vI x2, vI 0, vI (v28 - 1)]) (rest := []) (st1 := [vI q29.1]) (v := some (vI q29.1)) (m_X11_in C.tr eq29) (lw_S q1512 q1513 q133 q1514) hdX11_in rfl rfl (Nat.le_of_ble_eq_true rfl) ⟨by decide, by decide⟩ dX11_powers_148 rfl ?_
      refine r_if_eq C dX11_powers_151 (tgt := 163) (by decide) (fun c30 => ?_) (fun c30 => ?_)
      · have h := it_ h c30
        refine r_iload_n C 1 dX11_powers_163 rfl rfl ?_
        refine r_bipush C dX11_powers_164 (by decide) ?_
        refine r_isub C dX11_powers_166 ?_
        refine r_iconst C dX11_powers_167 ?_
        refine r_aload_n C 0 dX11_powers_168 rfl rfl ?_
        obtain ⟨v31, ev31, h⟩ := bs h
        refine r_getI C (c := 9) (r := (RX11, TX11, 38)) rfl 29 (by decide) rfl ev31 q1342 dX11_powers_169 ?_
        refine r_iconst C dX11_powers_172 ?_
        refine r_isub C dX11_powers_173 ?_
        obtain ⟨q32, eq32, h⟩ := bs h
        refine r_callS C (As := [vI (x2 - 10), vI 0, vI (v31 - 1)]) (rest := []) (st1 := [vI q32.1]) (v := some (vI q32.1)) (m_X11_in C.tr eq32) (lw_S q1512 q1513 q133 q1514) hdX11_in rfl rfl (Nat.le_of_ble_eq_true rfl) ⟨by decide, by decide⟩ dX11_powers_174 rfl ?_
        refine r_if_eq C dX11_powers_177 (tgt := 192) (by decide) (fun c33 => ?_) (fun c33 => ?_)
        · have h := it_ h c33
          refine r_iconst C dX11_powers_192 ?_
          cases h
          exact r_iret C hK dX11_powers_193
        · have h := ie_ h c33
          refine r_aload_n C 0 dX11_powers_180 rfl rfl ?_
          obtain ⟨v34, ev34, h⟩ := bs h
          refine r_getR C (c := 9) (r := (RX11, TX11, 38)) rfl 28 (by decide) rfl ev34 q1341 dX11_powers_181 ?_
          refine r_iload_n C 1 dX11_powers_184 rfl rfl ?_
          refine r_bipush C dX11_powers_185 (by decide) ?_
          refine r_isub C dX11_powers_187 ?_
          obtain ⟨v35, ev35, h⟩ := bs h
          refine r_iald C ev35 dX11_powers_188 ?_
          refine r_goto C dX11_powers_189 (tgt := 193) (by decide) ?_
          cases h
          exact r_iret C hK dX11_powers_193
      · have h := ie_ h c30
        refine r_aload_n C 0 dX11_powers_154 rfl rfl ?_
        obtain ⟨v36, ev36, h⟩ := bs h
        refine r_getR C (c := 9) (r := (RX11, TX11, 38)) rfl 27 (by decide) rfl ev36 q1340 dX11_powers_155 ?_
        refine r_iload_n C 1 dX11_powers_158 rfl rfl ?_
        obtain ⟨v37, ev37, h⟩ := bs h
        refine r_iald C ev37 dX11_powers_159 ?_
        refine r_goto C dX11_powers_160 (tgt := 193) (by decide) ?_
        cases h
        exact r_iret C hK dX11_powers_193
    · have h := ie_ h c27
      refine r_aload_n C 0 dX11_powers_135 rfl rfl ?_
      obtain ⟨v38, ev38, h⟩ := bs h
      refine r_getI C (c := 9) (r := (RX11, TX11, 38)) rfl 29 (by decide) rfl ev38 q1342 dX11_powers_136 ?_
      cases h
      exact r_iret C hK dX11_powers_139
  · have h := ie_ h c26
    refine r_iconst C dX11_powers_129 ?_
    cases h
    exact r_iret C hK dX11_powers_130
noncomputable def s_X11_powers_l82_st (a0 : Nat) (x2 : Int) (μ : Me) : Option ((Me) ⊕ (Int × Me)) :=
  (gI μ 9 a0 29).bind fun v23 =>
  (if w32 v23 ≤ 0 then
  (s_X11_powers_b121 a0 x2 μ).map Sum.inr
  else
  (gI μ 9 a0 29).bind fun v39 =>
  (if w32 4 ≤ w32 v39 then
  (s_X11_powers_b121 a0 x2 μ).map Sum.inr
  else
  (gI μ 9 a0 29).bind fun v41 =>
  (ck μ 9 a0).bind fun _ =>
  (s_X11_isSum a0 v41 μ).bind fun q42 =>
  (if w32 q42.1 = 0 then
  (gI q42.2 9 a0 29).bind fun v45 =>
  (pI q42.2 9 a0 29 (v45 + 1)).bind fun m46 =>
  some (.inl m46)
  else
  (s_X11_powers_b121 a0 x2 q42.2).map Sum.inr)))
theorem w_X11_powers_l82_st {Z : Zt} {fin : Int × Me} {w : ((Me) ⊕ (Int × Me))} (C : CX Z yX11_powers cX11_powers (some .int) 7 3) {a0 : Nat} {x2 : Int} {μ : Me} (h : s_X11_powers_l82_st a0 x2 μ = some w) (hK : (Sum.elim (fun s : Me => WL Z (QN Z (some (vI fin.1)) fin.2) s 82 [(0, vO a0), (2, vI x2)] []) (fun r : Int × Me => r = fin)) w) : WL Z (QN Z (some (vI fin.1)) fin.2) μ 82 [(0, vO a0), (2, vI x2)] [] := by
  unfold s_X11_powers_l82_st at h
  refine r_aload_n C 0 dX11_powers_82 rfl rfl ?_
  obtain ⟨v23, ev23, h⟩ := bs h
  refine r_getI C (c := 9) (r := (RX11, TX11, 38)) rfl 29 (by decide) rfl ev23 q1342 dX11_powers_83 ?_
  refine r_if_le C dX11_powers_86 (tgt := 121) (by decide) (fun c24 => ?_) (fun c24 => ?_)
  · have h := it_ h c24
    obtain ⟨z, hz, ez⟩ := ms_ h; clear h; subst ez; have h := hz; clear hz
    exact w_X11_powers_b121 (fin := fin) C h hK
  · have h := ie_ h c24
    refine r_aload_n C 0 dX11_powers_89 rfl rfl ?_
    obtain ⟨v39, ev39, h⟩ := bs h
    refine r_getI C (c := 9) (r := (RX11, TX11, 38)) rfl 29 (by decide) rfl ev39 q1342 dX11_powers_90 ?_
    refine r_iconst C dX11_powers_93 ?_
    refine r_icmp_ge C dX11_powers_94 (tgt := 121) (by decide) (fun c40 => ?_) (fun c40 => ?_)
    · have h := it_ h c40
      obtain ⟨z, hz, ez⟩ := ms_ h; clear h; subst ez; have h := hz; clear hz
      exact w_X11_powers_b121 (fin := fin) C h hK
    · have h := ie_ h c40
      refine r_aload_n C 0 dX11_powers_97 rfl rfl ?_
      refine r_aload_n C 0 dX11_powers_98 rfl rfl ?_
      obtain ⟨v41, ev41, h⟩ := bs h
      refine r_getI C (c := 9) (r := (RX11, TX11, 38)) rfl 29 (by decide) rfl ev41 q1342 dX11_powers_99 ?_
      obtain ⟨u43, eu43, h⟩ := bs h
      obtain ⟨q42, eq42, h⟩ := bs h
      refine r_callV C (As := [vI v41]) (b := a0) (rest := []) (st1 := [vI q42.1]) (v := some (vI q42.1)) (r := (RX11, TX11, 38)) (ci := 9) rfl eu43 (m_X11_isSum C.tr eq42) (lw_V q1847 q1849 qs104 q133 q1850) rfl hdX11_isSum rfl rfl (Nat.le_of_ble_eq_true rfl) ⟨by decide, by decide⟩ dX11_powers_102 rfl ?_
      refine r_if_ne C dX11_powers_105 (tgt := 121) (by decide) (fun c44 => ?_) (fun c44 => ?_)
      · have h := ie_ h c44
        obtain ⟨z, hz, ez⟩ := ms_ h; clear h; subst ez; have h := hz; clear hz
        exact w_X11_powers_b121 (fin := fin) C h hK
      · have h := it_ h c44
        refine r_aload_n C 0 dX11_powers_108 rfl rfl ?_
        refine r_dup C dX11_powers_109 rfl ?_
        obtain ⟨v45, ev45, h⟩ := bs h
        refine r_getI C (c := 9) (r := (RX11, TX11, 38)) rfl 29 (by decide) rfl ev45 q1342 dX11_powers_110 ?_
        refine r_iconst C dX11_powers_113 ?_
        refine r_iadd C dX11_powers_114 ?_
        obtain ⟨m46, em46, h⟩ := bs h
        refine r_putI C (c := 9) (r := (RX11, TX11, 38)) rfl 29 (by decide) rfl ⟨rfl, rfl⟩ rfl em46 q1342 dX11_powers_115 ?_
        refine r_goto C dX11_powers_118 (tgt := 82) (by decide) ?_
        cases h
        exact hK
noncomputable def s_X11_powers_l82 (a0 : Nat) (x2 : Int) (μ : Me) : Option (Int × Me) :=
  whileO (fun s : Me => s_X11_powers_l82_st a0 x2 s) μ
theorem e_X11_powers_l82 (a0 : Nat) (x2 : Int) (μ : Me) : s_X11_powers_l82 a0 x2 μ = (s_X11_powers_l82_st a0 x2 μ).bind fun x => x.elim (fun s : Me => s_X11_powers_l82 a0 x2 s) some := whileO_eq _ _
theorem w_X11_powers_l82 {Z : Zt} {fin : Int × Me} {w : (Int × Me)} (C : CX Z yX11_powers cX11_powers (some .int) 7 3) {a0 : Nat} {x2 : Int} {μ : Me} (h : s_X11_powers_l82 a0 x2 μ = some w) (hK : (fun r : Int × Me => r = fin) w) : WL Z (QN Z (some (vI fin.1)) fin.2) μ 82 [(0, vO a0), (2, vI x2)] [] := by
  refine whileO_walk (w := w) (fun s : Me => WL Z (QN Z (some (vI fin.1)) fin.2) s 82 [(0, vO a0), (2, vI x2)] []) (fun s v h2 hi hr => ?_) μ h
  refine w_X11_powers_l82_st (fin := fin) C h2 ?_
  cases v with
  | inl s2 => exact hi s2 rfl
  | inr r => have e := hr r rfl; subst e; exact hK
noncomputable def s_X11_powers_b37 (a0 : Nat) (x1 : Int) (x2 : Int) (t0 : Int) (t1 : Nat) (μ : Me) : Option (Int × Me) :=
  (ck μ 9 t1).bind fun _ =>
  (s_X11_throwsIf t1 t0 2 μ).bind fun q10 =>
  (if w32 q10.1 = 0 then
  (ck q10.2 9 a0).bind fun _ =>
  (s_X11_takes a0 40 x1 q10.2).bind fun q13 =>
  (gR q13 9 a0 4).bind fun v15 =>
  (aI q13 101 v15 40).bind fun v16 =>
  (ck q13 9 a0).bind fun _ =>
  (s_X11_raises a0 v16 q13).bind fun q17 =>
  (ck q17 9 a0).bind fun _ =>
  (s_X11_isNought a0 40 q17).bind fun q19 =>
  (if w32 q19.1 = 0 then
  (pI q19.2 9 a0 29 1).bind fun m22 =>
  s_X11_powers_l82 a0 x2 m22
  else
  (pI q19.2 9 a0 29 0).bind fun m47 =>
  s_X11_powers_l82 a0 x2 m47)
  else
  some (0, q10.2))
theorem w_X11_powers_b37 {Z : Zt} {fin : Int × Me} {w : (Int × Me)} (C : CX Z yX11_powers cX11_powers (some .int) 7 3) {a0 : Nat} {x1 : Int} {x2 : Int} {t0 : Int} {t1 : Nat} {μ : Me} (h : s_X11_powers_b37 a0 x1 x2 t0 t1 μ = some w) (hK : (fun r : Int × Me => r = fin) w) : WL Z (QN Z (some (vI fin.1)) fin.2) μ 37 [(0, vO a0), (1, vI x1), (2, vI x2)] [vI t0, vO t1] := by
  unfold s_X11_powers_b37 at h
  refine r_iconst C dX11_powers_37 ?_
  obtain ⟨u11, eu11, h⟩ := bs h
  obtain ⟨q10, eq10, h⟩ := bs h
  refine r_callV C (As := [vI t0, vI 2]) (b := t1) (rest := []) (st1 := [vI q10.1]) (v := some (vI q10.1)) (r := (RX11, TX11, 38)) (ci := 9) rfl eu11 (m_X11_throwsIf C.tr eq10) (lw_V q1500 q1502 qs49 q133 q1503) rfl hdX11_throwsIf rfl rfl (Nat.le_of_ble_eq_true rfl) ⟨by decide, by decide⟩ dX11_powers_38 rfl ?_
  refine r_if_eq C dX11_powers_41 (tgt := 46) (by decide) (fun c12 => ?_) (fun c12 => ?_)
  · have h := it_ h c12
    refine r_aload_n C 0 dX11_powers_46 rfl rfl ?_
    refine r_bipush C dX11_powers_47 (by decide) ?_
    refine r_iload_n C 1 dX11_powers_49 rfl rfl ?_
    obtain ⟨u14, eu14, h⟩ := bs h
    obtain ⟨q13, eq13, h⟩ := bs h
    refine r_callV C (As := [vI 40, vI x1]) (b := a0) (rest := []) (st1 := []) (v := none) (r := (RX11, TX11, 38)) (ci := 9) rfl eu14 (m_X11_takes C.tr eq13) (lw_V q1617 q1619 qs67 q133 q1620) rfl hdX11_takes rfl rfl (Nat.le_of_ble_eq_true rfl) ⟨by decide, by decide⟩ dX11_powers_50 rfl ?_
    refine r_aload_n C 0 dX11_powers_53 rfl rfl ?_
    refine r_aload_n C 0 dX11_powers_54 rfl rfl ?_
    obtain ⟨v15, ev15, h⟩ := bs h
    refine r_getR C (c := 9) (r := (RX11, TX11, 38)) rfl 4 (by decide) rfl ev15 q1317 dX11_powers_55 ?_
    refine r_bipush C dX11_powers_58 (by decide) ?_
    obtain ⟨v16, ev16, h⟩ := bs h
    refine r_iald C ev16 dX11_powers_60 ?_
    obtain ⟨u18, eu18, h⟩ := bs h
    obtain ⟨q17, eq17, h⟩ := bs h
    refine r_callV C (As := [vI v16]) (b := a0) (rest := []) (st1 := []) (v := none) (r := (RX11, TX11, 38)) (ci := 9) rfl eu18 (m_X11_raises C.tr eq17) (lw_V q1843 q1845 qs103 q133 q1846) rfl hdX11_raises rfl rfl (Nat.le_of_ble_eq_true rfl) ⟨by decide, by decide⟩ dX11_powers_61 rfl ?_
    refine r_aload_n C 0 dX11_powers_64 rfl rfl ?_
    refine r_aload_n C 0 dX11_powers_65 rfl rfl ?_
    refine r_bipush C dX11_powers_66 (by decide) ?_
    obtain ⟨u20, eu20, h⟩ := bs h
    obtain ⟨q19, eq19, h⟩ := bs h
    refine r_callV C (As := [vI 40]) (b := a0) (rest := [vO a0]) (st1 := [vI q19.1, vO a0]) (v := some (vI q19.1)) (r := (RX11, TX11, 38)) (ci := 9) rfl eu20 (m_X11_isNought C.tr eq19) (lw_V q1787 q1789 qs96 q133 q1790) rfl hdX11_isNought rfl rfl (Nat.le_of_ble_eq_true rfl) ⟨by decide, by decide⟩ dX11_powers_68 rfl ?_
    refine r_if_eq C dX11_powers_71 (tgt := 78) (by decide) (fun c21 => ?_) (fun c21 => ?_)
    · have h := it_ h c21
      refine r_iconst C dX11_powers_78 ?_
      obtain ⟨m22, em22, h⟩ := bs h
      refine r_putI C (c := 9) (r := (RX11, TX11, 38)) rfl 29 (by decide) rfl ⟨rfl, rfl⟩ rfl em22 q1342 dX11_powers_79 ?_
      refine r_sub [0, 2] rfl ?_
      exact w_X11_powers_l82 (fin := fin) C h hK
    · have h := ie_ h c21
      refine r_iconst C dX11_powers_74 ?_
      refine r_goto C dX11_powers_75 (tgt := 79) (by decide) ?_
      obtain ⟨m47, em47, h⟩ := bs h
      refine r_putI C (c := 9) (r := (RX11, TX11, 38)) rfl 29 (by decide) rfl ⟨rfl, rfl⟩ rfl em47 q1342 dX11_powers_79 ?_
      refine r_sub [0, 2] rfl ?_
      exact w_X11_powers_l82 (fin := fin) C h hK
  · have h := ie_ h c12
    refine r_iconst C dX11_powers_44 ?_
    cases h
    exact r_iret C hK dX11_powers_45
noncomputable def s_X11_powers_b32 (a0 : Nat) (x1 : Int) (x2 : Int) (t0 : Nat) (μ : Me) : Option (Int × Me) :=
  s_X11_powers_b37 a0 x1 x2 1 t0 μ
theorem w_X11_powers_b32 {Z : Zt} {fin : Int × Me} {w : (Int × Me)} (C : CX Z yX11_powers cX11_powers (some .int) 7 3) {a0 : Nat} {x1 : Int} {x2 : Int} {t0 : Nat} {μ : Me} (h : s_X11_powers_b32 a0 x1 x2 t0 μ = some w) (hK : (fun r : Int × Me => r = fin) w) : WL Z (QN Z (some (vI fin.1)) fin.2) μ 32 [(0, vO a0), (1, vI x1), (2, vI x2)] [vO t0] := by
  unfold s_X11_powers_b32 at h
  refine r_iconst C dX11_powers_32 ?_
  refine r_goto C dX11_powers_33 (tgt := 37) (by decide) ?_
  exact w_X11_powers_b37 (fin := fin) C h hK
noncomputable def s_X11_powers (a0 : Nat) (x1 : Int) (x2 : Int) (μ : Me) : Option (Int × Me) :=
  (pI μ 9 a0 0 0).bind fun m1 =>
  (ck m1 9 a0).bind fun _ =>
  (s_X11_noForm a0 x1 m1).bind fun q2 =>
  (ck q2.2 9 a0).bind fun _ =>
  (s_X11_throwsIf a0 q2.1 1 q2.2).bind fun q4 =>
  (if w32 q4.1 = 0 then
  (ck q4.2 9 a0).bind fun _ =>
  (s_X11_degreeOf a0 x1 q4.2).bind fun q7 =>
  (if w32 q7.1 = 0 then
  s_X11_powers_b32 a0 x1 x2 a0 q7.2
  else
  (if w32 (-1) ≤ w32 x2 then
  s_X11_powers_b37 a0 x1 x2 0 a0 q7.2
  else
  s_X11_powers_b32 a0 x1 x2 a0 q7.2))
  else
  some (0, q4.2))
theorem w_X11_powers {Z : Zt} {fin : Int × Me} {w : Int × Me} (C : CX Z yX11_powers cX11_powers (some .int) 7 3) {a0 : Nat} {x1 : Int} {x2 : Int} {μ : Me} (h : s_X11_powers a0 x1 x2 μ = some w) (hK : w = fin) : WL Z (QN Z (some (vI fin.1)) fin.2) μ 0 [(0, vO a0), (1, vI x1), (2, vI x2)] [] := by
  unfold s_X11_powers at h
  refine r_aload_n C 0 dX11_powers_0 rfl rfl ?_
  refine r_iconst C dX11_powers_1 ?_
  obtain ⟨m1, em1, h⟩ := bs h
  refine r_putI C (c := 9) (r := (RX11, TX11, 38)) rfl 0 (by decide) rfl ⟨rfl, rfl⟩ rfl em1 q1313 dX11_powers_2 ?_
  refine r_aload_n C 0 dX11_powers_5 rfl rfl ?_
  refine r_aload_n C 0 dX11_powers_6 rfl rfl ?_
  refine r_iload_n C 1 dX11_powers_7 rfl rfl ?_
  obtain ⟨u3, eu3, h⟩ := bs h
  obtain ⟨q2, eq2, h⟩ := bs h
  refine r_callV C (As := [vI x1]) (b := a0) (rest := [vO a0]) (st1 := [vI q2.1, vO a0]) (v := some (vI q2.1)) (r := (RX11, TX11, 38)) (ci := 9) rfl eu3 (m_X11_noForm C.tr eq2) (lw_V q1601 q1603 qs64 q133 q1604) rfl hdX11_noForm rfl rfl (Nat.le_of_ble_eq_true rfl) ⟨by decide, by decide⟩ dX11_powers_8 rfl ?_
  refine r_iconst C dX11_powers_11 ?_
  obtain ⟨u5, eu5, h⟩ := bs h
  obtain ⟨q4, eq4, h⟩ := bs h
  refine r_callV C (As := [vI q2.1, vI 1]) (b := a0) (rest := []) (st1 := [vI q4.1]) (v := some (vI q4.1)) (r := (RX11, TX11, 38)) (ci := 9) rfl eu5 (m_X11_throwsIf C.tr eq4) (lw_V q1500 q1502 qs49 q133 q1503) rfl hdX11_throwsIf rfl rfl (Nat.le_of_ble_eq_true rfl) ⟨by decide, by decide⟩ dX11_powers_12 rfl ?_
  refine r_if_ne C dX11_powers_15 (tgt := 44) (by decide) (fun c6 => ?_) (fun c6 => ?_)
  · have h := ie_ h c6
    refine r_iconst C dX11_powers_44 ?_
    cases h
    exact r_iret C hK dX11_powers_45
  · have h := it_ h c6
    refine r_aload_n C 0 dX11_powers_18 rfl rfl ?_
    refine r_aload_n C 0 dX11_powers_19 rfl rfl ?_
    refine r_iload_n C 1 dX11_powers_20 rfl rfl ?_
    obtain ⟨u8, eu8, h⟩ := bs h
    obtain ⟨q7, eq7, h⟩ := bs h
    refine r_callV C (As := [vI x1]) (b := a0) (rest := [vO a0]) (st1 := [vI q7.1, vO a0]) (v := some (vI q7.1)) (r := (RX11, TX11, 38)) (ci := 9) rfl eu8 (m_X11_degreeOf C.tr eq7) (lw_V q1605 q1607 qs65 q133 q1608) rfl hdX11_degreeOf rfl rfl (Nat.le_of_ble_eq_true rfl) ⟨by decide, by decide⟩ dX11_powers_21 rfl ?_
    refine r_if_eq C dX11_powers_24 (tgt := 32) (by decide) (fun c9 => ?_) (fun c9 => ?_)
    · have h := it_ h c9
      exact w_X11_powers_b32 (fin := fin) C h hK
    · have h := ie_ h c9
      refine r_iload_n C 2 dX11_powers_27 rfl rfl ?_
      refine r_iconst C dX11_powers_28 ?_
      refine r_icmp_ge C dX11_powers_29 (tgt := 36) (by decide) (fun c48 => ?_) (fun c48 => ?_)
      · have h := it_ h c48
        refine r_iconst C dX11_powers_36 ?_
        exact w_X11_powers_b37 (fin := fin) C h hK
      · have h := ie_ h c48
        exact w_X11_powers_b32 (fin := fin) C h hK
theorem hdX11_powers : zhd yX11_powers 2 := by decide +kernel
theorem m_X11_powers {l : Launch} {D : va_G} {b0 : Nat} (hl : l.stackTraces = false) {a0 : Nat} {x1 : Int} {x2 : Int} {μ : Me} {w : Int × Me} (h : s_X11_powers a0 x1 x2 μ = some w) : MN l D b0 yX11_powers (ws_ yX11_powers cX11_powers 3 (some .int)) 7 [vO a0, vI x1, vI x2] μ (some (vI w.1)) w.2 :=
  MN.of hl (by decide +kernel) (Nat.le_of_ble_eq_true rfl) (fun Z C _ _ => w_X11_powers C h rfl)
noncomputable def s_X11_strips_b49 (a0 : Nat) (x1 : Int) (x2 : Int)  (μ : Me) : Option (Int × Me) :=
  (gR μ 9 a0 4).bind fun v7 =>
  (aI μ 101 v7 x1).bind fun v8 =>
  (uI μ v7 x1 (v8 - x2)).bind fun m9 =>
  some (x2, m9)
theorem w_X11_strips_b49 {Z : Zt} {fin : Int × Me} {w : (Int × Me)} (C : CX Z yX11_strips cX11_strips (some .int) 2 4) {a0 : Nat} {x1 : Int} {x2 : Int}  {μ : Me} (h : s_X11_strips_b49 a0 x1 x2 μ = some w) (hK : (fun r : Int × Me => r = fin) w) : WL Z (QN Z (some (vI fin.1)) fin.2) μ 49 [(0, vO a0), (1, vI x1), (2, vI x2)] [] := by
  unfold s_X11_strips_b49 at h
  refine r_aload_n C 0 dX11_strips_49 rfl rfl ?_
  obtain ⟨v7, ev7, h⟩ := bs h
  refine r_getR C (c := 9) (r := (RX11, TX11, 38)) rfl 4 (by decide) rfl ev7 q1317 dX11_strips_50 ?_
  refine r_iload_n C 1 dX11_strips_53 rfl rfl ?_
  refine r_dup2 C dX11_strips_54 rfl rfl ?_
  obtain ⟨v8, ev8, h⟩ := bs h
  refine r_iald C ev8 dX11_strips_55 ?_
  refine r_iload_n C 2 dX11_strips_56 rfl rfl ?_
  refine r_isub C dX11_strips_57 ?_
  obtain ⟨m9, em9, h⟩ := bs h
  refine r_iast C em9 dX11_strips_58 ?_
  refine r_iload_n C 2 dX11_strips_59 rfl rfl ?_
  cases h
  exact r_iret C hK dX11_strips_60
noncomputable def s_X11_strips_l19_st (a0 : Nat) (x1 : Int) (x2 : Int) (x3 : Int) (μ : Me) : Option ((Int × Me) ⊕ (Int × Me)) :=
  (gR μ 9 a0 4).bind fun v4 =>
  (aI μ 101 v4 x1).bind fun v5 =>
  (if w32 v5 < w32 x3 then
  (s_X11_strips_b49 a0 x1 x2 μ).map Sum.inr
  else
  (ck μ 9 a0).bind fun _ =>
  (s_X11_of a0 x1 x3 μ).bind fun q10 =>
  (ck q10.2 9 a0).bind fun _ =>
  (s_X11_put a0 x1 (x3 - x2) q10.1 q10.2).bind fun q12 =>
  some (.inl ((x3 + 1), q12)))
theorem w_X11_strips_l19_st {Z : Zt} {fin : Int × Me} {w : ((Int × Me) ⊕ (Int × Me))} (C : CX Z yX11_strips cX11_strips (some .int) 2 4) {a0 : Nat} {x1 : Int} {x2 : Int} {x3 : Int} {μ : Me} (h : s_X11_strips_l19_st a0 x1 x2 x3 μ = some w) (hK : (Sum.elim (fun s : Int × Me => WL Z (QN Z (some (vI fin.1)) fin.2) s.2 19 [(0, vO a0), (1, vI x1), (2, vI x2), (3, vI s.1)] []) (fun r : Int × Me => r = fin)) w) : WL Z (QN Z (some (vI fin.1)) fin.2) μ 19 [(0, vO a0), (1, vI x1), (2, vI x2), (3, vI x3)] [] := by
  unfold s_X11_strips_l19_st at h
  refine r_iload_n C 3 dX11_strips_19 rfl rfl ?_
  refine r_aload_n C 0 dX11_strips_20 rfl rfl ?_
  obtain ⟨v4, ev4, h⟩ := bs h
  refine r_getR C (c := 9) (r := (RX11, TX11, 38)) rfl 4 (by decide) rfl ev4 q1317 dX11_strips_21 ?_
  refine r_iload_n C 1 dX11_strips_24 rfl rfl ?_
  obtain ⟨v5, ev5, h⟩ := bs h
  refine r_iald C ev5 dX11_strips_25 ?_
  refine r_icmp_gt C dX11_strips_26 (tgt := 49) (by decide) (fun c6 => ?_) (fun c6 => ?_)
  · have h := it_ h c6
    obtain ⟨z, hz, ez⟩ := ms_ h; clear h; subst ez; have h := hz; clear hz
    refine r_sub [0, 1, 2] rfl ?_
    exact w_X11_strips_b49 (fin := fin) C h hK
  · have h := ie_ h c6
    refine r_aload_n C 0 dX11_strips_29 rfl rfl ?_
    refine r_iload_n C 1 dX11_strips_30 rfl rfl ?_
    refine r_iload_n C 3 dX11_strips_31 rfl rfl ?_
    refine r_iload_n C 2 dX11_strips_32 rfl rfl ?_
    refine r_isub C dX11_strips_33 ?_
    refine r_aload_n C 0 dX11_strips_34 rfl rfl ?_
    refine r_iload_n C 1 dX11_strips_35 rfl rfl ?_
    refine r_iload_n C 3 dX11_strips_36 rfl rfl ?_
    obtain ⟨u11, eu11, h⟩ := bs h
    obtain ⟨q10, eq10, h⟩ := bs h
    refine r_callV C (As := [vI x1, vI x3]) (b := a0) (rest := [vI (x3 - x2), vI x1, vO a0]) (st1 := [vI q10.1, vI (x3 - x2), vI x1, vO a0]) (v := some (vI q10.1)) (r := (RX11, TX11, 38)) (ci := 9) rfl eu11 (m_X11_of C.tr eq10) (lw_V q1629 q1631 qs70 q133 q1632) rfl hdX11_of rfl rfl (Nat.le_of_ble_eq_true rfl) ⟨by decide, by decide⟩ dX11_strips_37 rfl ?_
    obtain ⟨u13, eu13, h⟩ := bs h
    obtain ⟨q12, eq12, h⟩ := bs h
    refine r_callV C (As := [vI x1, vI (x3 - x2), vI q10.1]) (b := a0) (rest := []) (st1 := []) (v := none) (r := (RX11, TX11, 38)) (ci := 9) rfl eu13 (m_X11_put C.tr eq12) (lw_V q1621 q1623 qs68 q133 q1624) rfl hdX11_put rfl rfl (Nat.le_of_ble_eq_true rfl) ⟨by decide, by decide⟩ dX11_strips_40 rfl ?_
    refine r_iinc C 3 [(3, vI (x3 + 1)), (0, vO a0), (1, vI x1), (2, vI x2)] dX11_strips_43 rfl (by decide) rfl ?_
    refine r_goto C dX11_strips_46 (tgt := 19) (by decide) ?_
    cases h
    refine r_sub [1, 2, 3, 0] rfl ?_
    exact hK
noncomputable def s_X11_strips_l19 (a0 : Nat) (x1 : Int) (x2 : Int) (x3 : Int) (μ : Me) : Option (Int × Me) :=
  whileO (fun s : Int × Me => s_X11_strips_l19_st a0 x1 x2 s.1 s.2) (x3, μ)
theorem e_X11_strips_l19 (a0 : Nat) (x1 : Int) (x2 : Int) (x3 : Int) (μ : Me) : s_X11_strips_l19 a0 x1 x2 x3 μ = (s_X11_strips_l19_st a0 x1 x2 x3 μ).bind fun x => x.elim (fun s : Int × Me => s_X11_strips_l19 a0 x1 x2 s.1 s.2) some := whileO_eq _ _
theorem w_X11_strips_l19 {Z : Zt} {fin : Int × Me} {w : (Int × Me)} (C : CX Z yX11_strips cX11_strips (some .int) 2 4) {a0 : Nat} {x1 : Int} {x2 : Int} {x3 : Int} {μ : Me} (h : s_X11_strips_l19 a0 x1 x2 x3 μ = some w) (hK : (fun r : Int × Me => r = fin) w) : WL Z (QN Z (some (vI fin.1)) fin.2) μ 19 [(0, vO a0), (1, vI x1), (2, vI x2), (3, vI x3)] [] := by
  refine whileO_walk (w := w) (fun s : Int × Me => WL Z (QN Z (some (vI fin.1)) fin.2) s.2 19 [(0, vO a0), (1, vI x1), (2, vI x2), (3, vI s.1)] []) (fun s v h2 hi hr => ?_) (x3, μ) h
  refine w_X11_strips_l19_st (fin := fin) C h2 ?_
  cases v with
  | inl s2 => exact hi s2 rfl
  | inr r => have e := hr r rfl; subst e; exact hK
noncomputable def s_X11_strips_l2_st (a0 : Nat) (x1 : Int) (x2 : Int) (μ : Me) : Option ((Int × Me) ⊕ (Int × Me)) :=
  (ck μ 9 a0).bind fun _ =>
  (s_X11_of a0 x1 x2 μ).bind fun q1 =>
  (if w32 q1.1 = 0 then
  some (.inl ((x2 + 1), q1.2))
  else
  (s_X11_strips_l19 a0 x1 x2 x2 q1.2).map Sum.inr)
theorem w_X11_strips_l2_st {Z : Zt} {fin : Int × Me} {w : ((Int × Me) ⊕ (Int × Me))} (C : CX Z yX11_strips cX11_strips (some .int) 2 4) {a0 : Nat} {x1 : Int} {x2 : Int} {μ : Me} (h : s_X11_strips_l2_st a0 x1 x2 μ = some w) (hK : (Sum.elim (fun s : Int × Me => WL Z (QN Z (some (vI fin.1)) fin.2) s.2 2 [(0, vO a0), (1, vI x1), (2, vI s.1)] []) (fun r : Int × Me => r = fin)) w) : WL Z (QN Z (some (vI fin.1)) fin.2) μ 2 [(0, vO a0), (1, vI x1), (2, vI x2)] [] := by
  unfold s_X11_strips_l2_st at h
  refine r_aload_n C 0 dX11_strips_2 rfl rfl ?_
  refine r_iload_n C 1 dX11_strips_3 rfl rfl ?_
  refine r_iload_n C 2 dX11_strips_4 rfl rfl ?_
  obtain ⟨u2, eu2, h⟩ := bs h
  obtain ⟨q1, eq1, h⟩ := bs h
  refine r_callV C (As := [vI x1, vI x2]) (b := a0) (rest := []) (st1 := [vI q1.1]) (v := some (vI q1.1)) (r := (RX11, TX11, 38)) (ci := 9) rfl eu2 (m_X11_of C.tr eq1) (lw_V q1629 q1631 qs70 q133 q1632) rfl hdX11_of rfl rfl (Nat.le_of_ble_eq_true rfl) ⟨by decide, by decide⟩ dX11_strips_5 rfl ?_
  refine r_if_ne C dX11_strips_8 (tgt := 17) (by decide) (fun c3 => ?_) (fun c3 => ?_)
  · have h := ie_ h c3
    refine r_iload_n C 2 dX11_strips_17 rfl rfl ?_
    refine r_istore_n C [(3, vI x2), (0, vO a0), (1, vI x1), (2, vI x2)] dX11_strips_18 rfl (by decide) rfl ?_
    obtain ⟨z, hz, ez⟩ := ms_ h; clear h; subst ez; have h := hz; clear hz
    refine r_sub [1, 2, 3, 0] rfl ?_
    exact w_X11_strips_l19 (fin := fin) C h hK
  · have h := it_ h c3
    refine r_iinc C 2 [(2, vI (x2 + 1)), (0, vO a0), (1, vI x1)] dX11_strips_11 rfl (by decide) rfl ?_
    refine r_goto C dX11_strips_14 (tgt := 2) (by decide) ?_
    cases h
    refine r_sub [1, 2, 0] rfl ?_
    exact hK
noncomputable def s_X11_strips_l2 (a0 : Nat) (x1 : Int) (x2 : Int) (μ : Me) : Option (Int × Me) :=
  whileO (fun s : Int × Me => s_X11_strips_l2_st a0 x1 s.1 s.2) (x2, μ)
theorem e_X11_strips_l2 (a0 : Nat) (x1 : Int) (x2 : Int) (μ : Me) : s_X11_strips_l2 a0 x1 x2 μ = (s_X11_strips_l2_st a0 x1 x2 μ).bind fun x => x.elim (fun s : Int × Me => s_X11_strips_l2 a0 x1 s.1 s.2) some := whileO_eq _ _
theorem w_X11_strips_l2 {Z : Zt} {fin : Int × Me} {w : (Int × Me)} (C : CX Z yX11_strips cX11_strips (some .int) 2 4) {a0 : Nat} {x1 : Int} {x2 : Int} {μ : Me} (h : s_X11_strips_l2 a0 x1 x2 μ = some w) (hK : (fun r : Int × Me => r = fin) w) : WL Z (QN Z (some (vI fin.1)) fin.2) μ 2 [(0, vO a0), (1, vI x1), (2, vI x2)] [] := by
  refine whileO_walk (w := w) (fun s : Int × Me => WL Z (QN Z (some (vI fin.1)) fin.2) s.2 2 [(0, vO a0), (1, vI x1), (2, vI s.1)] []) (fun s v h2 hi hr => ?_) (x2, μ) h
  refine w_X11_strips_l2_st (fin := fin) C h2 ?_
  cases v with
  | inl s2 => exact hi s2 rfl
  | inr r => have e := hr r rfl; subst e; exact hK
noncomputable def s_X11_strips (a0 : Nat) (x1 : Int) (μ : Me) : Option (Int × Me) :=
  s_X11_strips_l2 a0 x1 0 μ
theorem w_X11_strips {Z : Zt} {fin : Int × Me} {w : Int × Me} (C : CX Z yX11_strips cX11_strips (some .int) 2 4) {a0 : Nat} {x1 : Int} {μ : Me} (h : s_X11_strips a0 x1 μ = some w) (hK : w = fin) : WL Z (QN Z (some (vI fin.1)) fin.2) μ 0 [(0, vO a0), (1, vI x1)] [] := by
  unfold s_X11_strips at h
  refine r_iconst C dX11_strips_0 ?_
  refine r_istore_n C [(2, vI 0), (0, vO a0), (1, vI x1)] dX11_strips_1 rfl (by decide) rfl ?_
  refine r_sub [1, 2, 0] rfl ?_
  exact w_X11_strips_l2 (fin := fin) C h hK
theorem hdX11_strips : zhd yX11_strips 1 := by decide +kernel
theorem m_X11_strips {l : Launch} {D : va_G} {b0 : Nat} (hl : l.stackTraces = false) {a0 : Nat} {x1 : Int} {μ : Me} {w : Int × Me} (h : s_X11_strips a0 x1 μ = some w) : MN l D b0 yX11_strips (ws_ yX11_strips cX11_strips 4 (some .int)) 2 [vO a0, vI x1] μ (some (vI w.1)) w.2 :=
  MN.of hl (by decide +kernel) (Nat.le_of_ble_eq_true rfl) (fun Z C _ _ => w_X11_strips C h rfl)
noncomputable def s_X11_divides_l71_st (a0 : Nat) (x1 : Int) (x2 : Int) (x3 : Int) (x4 : Int) (x5 : Int) (x6 : Int) (x7 : Int) (μ : Me) : Option ((Int × Me) ⊕ ((Int × Me) ⊕ (Me))) :=
  (gR μ 9 a0 4).bind fun v20 =>
  (aI μ 101 v20 x2).bind fun v21 =>
  (if w32 v21 < w32 x7 then
  some (.inr (.inl ((x5 + 1), μ)))
  else
  (ck μ 9 a0).bind fun _ =>
  (s_X11_of a0 x1 (x5 + x7) μ).bind fun q23 =>
  (ck q23.2 9 a0).bind fun _ =>
  (s_X11_of a0 x2 x7 q23.2).bind fun q25 =>
  (ck q25.2 9 a0).bind fun _ =>
  (s_X11_times a0 x6 q25.1 q25.2).bind fun q27 =>
  (ck q27.2 9 a0).bind fun _ =>
  (s_X11_less a0 q23.1 q27.1 q27.2).bind fun q29 =>
  (ck q29.2 9 a0).bind fun _ =>
  (s_X11_put a0 x1 (x5 + x7) q29.1 q29.2).bind fun q31 =>
  some (.inl ((x7 + 1), q31)))
theorem w_X11_divides_l71_st {Z : Zt} {fin : Me} {w : ((Int × Me) ⊕ ((Int × Me) ⊕ (Me)))} (C : CX Z yX11_divides cX11_divides none 5 8) {a0 : Nat} {x1 : Int} {x2 : Int} {x3 : Int} {x4 : Int} {x5 : Int} {x6 : Int} {x7 : Int} {μ : Me} (h : s_X11_divides_l71_st a0 x1 x2 x3 x4 x5 x6 x7 μ = some w) (hK : (Sum.elim (fun s : Int × Me => WL Z (QN Z none fin) s.2 71 [(0, vO a0), (1, vI x1), (2, vI x2), (3, vI x3), (4, vI x4), (5, vI x5), (6, vI x6), (7, vI s.1)] []) (Sum.elim (fun s : Int × Me => WL Z (QN Z none fin) s.2 33 [(0, vO a0), (1, vI x1), (2, vI x2), (3, vI x3), (4, vI x4), (5, vI s.1)] []) (fun r : Me => r = fin))) w) : WL Z (QN Z none fin) μ 71 [(0, vO a0), (1, vI x1), (2, vI x2), (3, vI x3), (4, vI x4), (5, vI x5), (6, vI x6), (7, vI x7)] [] := by
  unfold s_X11_divides_l71_st at h
  refine r_iload C 7 dX11_divides_71 rfl ?_
  refine r_aload_n C 0 dX11_divides_73 rfl rfl ?_
  obtain ⟨v20, ev20, h⟩ := bs h
  refine r_getR C (c := 9) (r := (RX11, TX11, 38)) rfl 4 (by decide) rfl ev20 q1317 dX11_divides_74 ?_
  refine r_iload_n C 2 dX11_divides_77 rfl rfl ?_
  obtain ⟨v21, ev21, h⟩ := bs h
  refine r_iald C ev21 dX11_divides_78 ?_
  refine r_icmp_gt C dX11_divides_79 (tgt := 125) (by decide) (fun c22 => ?_) (fun c22 => ?_)
  · have h := it_ h c22
    refine r_iinc C 5 [(5, vI (x5 + 1)), (0, vO a0), (1, vI x1), (2, vI x2), (3, vI x3), (4, vI x4), (6, vI x6), (7, vI x7)] dX11_divides_125 rfl (by decide) rfl ?_
    refine r_goto C dX11_divides_128 (tgt := 33) (by decide) ?_
    cases h
    refine r_sub [1, 2, 3, 4, 5, 0] rfl ?_
    exact hK
  · have h := ie_ h c22
    refine r_aload_n C 0 dX11_divides_82 rfl rfl ?_
    refine r_iload_n C 1 dX11_divides_83 rfl rfl ?_
    refine r_iload C 5 dX11_divides_84 rfl ?_
    refine r_iload C 7 dX11_divides_86 rfl ?_
    refine r_iadd C dX11_divides_88 ?_
    refine r_aload_n C 0 dX11_divides_89 rfl rfl ?_
    refine r_aload_n C 0 dX11_divides_90 rfl rfl ?_
    refine r_iload_n C 1 dX11_divides_91 rfl rfl ?_
    refine r_iload C 5 dX11_divides_92 rfl ?_
    refine r_iload C 7 dX11_divides_94 rfl ?_
    refine r_iadd C dX11_divides_96 ?_
    obtain ⟨u24, eu24, h⟩ := bs h
    obtain ⟨q23, eq23, h⟩ := bs h
    refine r_callV C (As := [vI x1, vI (x5 + x7)]) (b := a0) (rest := [vO a0, vI (x5 + x7), vI x1, vO a0]) (st1 := [vI q23.1, vO a0, vI (x5 + x7), vI x1, vO a0]) (v := some (vI q23.1)) (r := (RX11, TX11, 38)) (ci := 9) rfl eu24 (m_X11_of C.tr eq23) (lw_V q1629 q1631 qs70 q133 q1632) rfl hdX11_of rfl rfl (Nat.le_of_ble_eq_true rfl) ⟨by decide, by decide⟩ dX11_divides_97 rfl ?_
    refine r_aload_n C 0 dX11_divides_100 rfl rfl ?_
    refine r_iload C 6 dX11_divides_101 rfl ?_
    refine r_aload_n C 0 dX11_divides_103 rfl rfl ?_
    refine r_iload_n C 2 dX11_divides_104 rfl rfl ?_
    refine r_iload C 7 dX11_divides_105 rfl ?_
    obtain ⟨u26, eu26, h⟩ := bs h
    obtain ⟨q25, eq25, h⟩ := bs h
    refine r_callV C (As := [vI x2, vI x7]) (b := a0) (rest := [vI x6, vO a0, vI q23.1, vO a0, vI (x5 + x7), vI x1, vO a0]) (st1 := [vI q25.1, vI x6, vO a0, vI q23.1, vO a0, vI (x5 + x7), vI x1, vO a0]) (v := some (vI q25.1)) (r := (RX11, TX11, 38)) (ci := 9) rfl eu26 (m_X11_of C.tr eq25) (lw_V q1629 q1631 qs70 q133 q1632) rfl hdX11_of rfl rfl (Nat.le_of_ble_eq_true rfl) ⟨by decide, by decide⟩ dX11_divides_107 rfl ?_
    obtain ⟨u28, eu28, h⟩ := bs h
    obtain ⟨q27, eq27, h⟩ := bs h
    refine r_callV C (As := [vI x6, vI q25.1]) (b := a0) (rest := [vI q23.1, vO a0, vI (x5 + x7), vI x1, vO a0]) (st1 := [vI q27.1, vI q23.1, vO a0, vI (x5 + x7), vI x1, vO a0]) (v := some (vI q27.1)) (r := (RX11, TX11, 38)) (ci := 9) rfl eu28 (m_X11_times C.tr eq27) (lw_V q1541 q1543 qs54 q133 q1544) rfl hdX11_times rfl rfl (Nat.le_of_ble_eq_true rfl) ⟨by decide, by decide⟩ dX11_divides_110 rfl ?_
    obtain ⟨u30, eu30, h⟩ := bs h
    obtain ⟨q29, eq29, h⟩ := bs h
    refine r_callV C (As := [vI q23.1, vI q27.1]) (b := a0) (rest := [vI (x5 + x7), vI x1, vO a0]) (st1 := [vI q29.1, vI (x5 + x7), vI x1, vO a0]) (v := some (vI q29.1)) (r := (RX11, TX11, 38)) (ci := 9) rfl eu30 (m_X11_less C.tr eq29) (lw_V q1545 q1547 qs55 q133 q1548) rfl hdX11_less rfl rfl (Nat.le_of_ble_eq_true rfl) ⟨by decide, by decide⟩ dX11_divides_113 rfl ?_
    obtain ⟨u32, eu32, h⟩ := bs h
    obtain ⟨q31, eq31, h⟩ := bs h
    refine r_callV C (As := [vI x1, vI (x5 + x7), vI q29.1]) (b := a0) (rest := []) (st1 := []) (v := none) (r := (RX11, TX11, 38)) (ci := 9) rfl eu32 (m_X11_put C.tr eq31) (lw_V q1621 q1623 qs68 q133 q1624) rfl hdX11_put rfl rfl (Nat.le_of_ble_eq_true rfl) ⟨by decide, by decide⟩ dX11_divides_116 rfl ?_
    refine r_iinc C 7 [(7, vI (x7 + 1)), (0, vO a0), (1, vI x1), (2, vI x2), (3, vI x3), (4, vI x4), (5, vI x5), (6, vI x6)] dX11_divides_119 rfl (by decide) rfl ?_
    refine r_goto C dX11_divides_122 (tgt := 71) (by decide) ?_
    cases h
    refine r_sub [1, 2, 3, 4, 5, 6, 7, 0] rfl ?_
    exact hK
noncomputable def s_X11_divides_l71 (a0 : Nat) (x1 : Int) (x2 : Int) (x3 : Int) (x4 : Int) (x5 : Int) (x6 : Int) (x7 : Int) (μ : Me) : Option ((Int × Me) ⊕ (Me)) :=
  whileO (fun s : Int × Me => s_X11_divides_l71_st a0 x1 x2 x3 x4 x5 x6 s.1 s.2) (x7, μ)
theorem e_X11_divides_l71 (a0 : Nat) (x1 : Int) (x2 : Int) (x3 : Int) (x4 : Int) (x5 : Int) (x6 : Int) (x7 : Int) (μ : Me) : s_X11_divides_l71 a0 x1 x2 x3 x4 x5 x6 x7 μ = (s_X11_divides_l71_st a0 x1 x2 x3 x4 x5 x6 x7 μ).bind fun x => x.elim (fun s : Int × Me => s_X11_divides_l71 a0 x1 x2 x3 x4 x5 x6 s.1 s.2) some := whileO_eq _ _
theorem w_X11_divides_l71 {Z : Zt} {fin : Me} {w : ((Int × Me) ⊕ (Me))} (C : CX Z yX11_divides cX11_divides none 5 8) {a0 : Nat} {x1 : Int} {x2 : Int} {x3 : Int} {x4 : Int} {x5 : Int} {x6 : Int} {x7 : Int} {μ : Me} (h : s_X11_divides_l71 a0 x1 x2 x3 x4 x5 x6 x7 μ = some w) (hK : (Sum.elim (fun s : Int × Me => WL Z (QN Z none fin) s.2 33 [(0, vO a0), (1, vI x1), (2, vI x2), (3, vI x3), (4, vI x4), (5, vI s.1)] []) (fun r : Me => r = fin)) w) : WL Z (QN Z none fin) μ 71 [(0, vO a0), (1, vI x1), (2, vI x2), (3, vI x3), (4, vI x4), (5, vI x5), (6, vI x6), (7, vI x7)] [] := by
  refine whileO_walk (w := w) (fun s : Int × Me => WL Z (QN Z none fin) s.2 71 [(0, vO a0), (1, vI x1), (2, vI x2), (3, vI x3), (4, vI x4), (5, vI x5), (6, vI x6), (7, vI s.1)] []) (fun s v h2 hi hr => ?_) (x7, μ) h
  refine w_X11_divides_l71_st (fin := fin) C h2 ?_
  cases v with
  | inl s2 => exact hi s2 rfl
  | inr r => have e := hr r rfl; subst e; exact hK
noncomputable def s_X11_divides_l33_st (a0 : Nat) (x1 : Int) (x2 : Int) (x3 : Int) (x4 : Int) (x5 : Int) (μ : Me) : Option ((Int × Me) ⊕ (Me)) :=
  (gR μ 9 a0 4).bind fun v11 =>
  (aI μ 101 v11 x3).bind fun v12 =>
  (if w32 v12 < w32 x5 then
  some (.inr μ)
  else
  (ck μ 9 a0).bind fun _ =>
  (s_X11_of a0 x1 x5 μ).bind fun q14 =>
  (ck q14.2 9 a0).bind fun _ =>
  (s_X11_times a0 q14.1 x4 q14.2).bind fun q16 =>
  (ck q16.2 9 a0).bind fun _ =>
  (s_X11_put a0 x3 x5 q16.1 q16.2).bind fun q18 =>
  s_X11_divides_l71 a0 x1 x2 x3 x4 x5 q16.1 0 q18)
theorem w_X11_divides_l33_st {Z : Zt} {fin : Me} {w : ((Int × Me) ⊕ (Me))} (C : CX Z yX11_divides cX11_divides none 5 8) {a0 : Nat} {x1 : Int} {x2 : Int} {x3 : Int} {x4 : Int} {x5 : Int} {μ : Me} (h : s_X11_divides_l33_st a0 x1 x2 x3 x4 x5 μ = some w) (hK : (Sum.elim (fun s : Int × Me => WL Z (QN Z none fin) s.2 33 [(0, vO a0), (1, vI x1), (2, vI x2), (3, vI x3), (4, vI x4), (5, vI s.1)] []) (fun r : Me => r = fin)) w) : WL Z (QN Z none fin) μ 33 [(0, vO a0), (1, vI x1), (2, vI x2), (3, vI x3), (4, vI x4), (5, vI x5)] [] := by
  unfold s_X11_divides_l33_st at h
  refine r_iload C 5 dX11_divides_33 rfl ?_
  refine r_aload_n C 0 dX11_divides_35 rfl rfl ?_
  obtain ⟨v11, ev11, h⟩ := bs h
  refine r_getR C (c := 9) (r := (RX11, TX11, 38)) rfl 4 (by decide) rfl ev11 q1317 dX11_divides_36 ?_
  refine r_iload_n C 3 dX11_divides_39 rfl rfl ?_
  obtain ⟨v12, ev12, h⟩ := bs h
  refine r_iald C ev12 dX11_divides_40 ?_
  refine r_icmp_gt C dX11_divides_41 (tgt := 131) (by decide) (fun c13 => ?_) (fun c13 => ?_)
  · have h := it_ h c13
    cases h
    exact r_vret C hK dX11_divides_131
  · have h := ie_ h c13
    refine r_aload_n C 0 dX11_divides_44 rfl rfl ?_
    refine r_aload_n C 0 dX11_divides_45 rfl rfl ?_
    refine r_iload_n C 1 dX11_divides_46 rfl rfl ?_
    refine r_iload C 5 dX11_divides_47 rfl ?_
    obtain ⟨u15, eu15, h⟩ := bs h
    obtain ⟨q14, eq14, h⟩ := bs h
    refine r_callV C (As := [vI x1, vI x5]) (b := a0) (rest := [vO a0]) (st1 := [vI q14.1, vO a0]) (v := some (vI q14.1)) (r := (RX11, TX11, 38)) (ci := 9) rfl eu15 (m_X11_of C.tr eq14) (lw_V q1629 q1631 qs70 q133 q1632) rfl hdX11_of rfl rfl (Nat.le_of_ble_eq_true rfl) ⟨by decide, by decide⟩ dX11_divides_49 rfl ?_
    refine r_iload C 4 dX11_divides_52 rfl ?_
    obtain ⟨u17, eu17, h⟩ := bs h
    obtain ⟨q16, eq16, h⟩ := bs h
    refine r_callV C (As := [vI q14.1, vI x4]) (b := a0) (rest := []) (st1 := [vI q16.1]) (v := some (vI q16.1)) (r := (RX11, TX11, 38)) (ci := 9) rfl eu17 (m_X11_times C.tr eq16) (lw_V q1541 q1543 qs54 q133 q1544) rfl hdX11_times rfl rfl (Nat.le_of_ble_eq_true rfl) ⟨by decide, by decide⟩ dX11_divides_54 rfl ?_
    refine r_istore C [(6, vI q16.1), (0, vO a0), (1, vI x1), (2, vI x2), (3, vI x3), (4, vI x4), (5, vI x5)] dX11_divides_57 (by decide) rfl ?_
    refine r_aload_n C 1 dX11_divides_59 rfl rfl ?_
    refine r_iload_n C 4 dX11_divides_60 rfl rfl ?_
    refine r_iload C 6 dX11_divides_61 rfl ?_
    refine r_iload C 0 dX11_divides_63 rfl ?_
    obtain ⟨u19, eu19, h⟩ := bs h
    obtain ⟨q18, eq18, h⟩ := bs h
    refine r_callV C (As := [vI x3, vI x5, vI q16.1]) (b := a0) (rest := []) (st1 := []) (v := none) (r := (RX11, TX11, 38)) (ci := 9) rfl eu19 (m_X11_put C.tr eq18) (lw_V q1621 q1623 qs68 q133 q1624) rfl hdX11_put rfl rfl (Nat.le_of_ble_eq_true rfl) ⟨by decide, by decide⟩ dX11_divides_65 rfl ?_
    refine r_iconst C dX11_divides_68 ?_
    refine r_istore C [(7, vI 0), (6, vI q16.1), (0, vO a0), (1, vI x1), (2, vI x2), (3, vI x3), (4, vI x4), (5, vI x5)] dX11_divides_69 (by decide) rfl ?_
    refine r_sub [2, 3, 4, 5, 6, 7, 1, 0] rfl ?_
    exact w_X11_divides_l71 (fin := fin) C h hK
noncomputable def s_X11_divides_l33 (a0 : Nat) (x1 : Int) (x2 : Int) (x3 : Int) (x4 : Int) (x5 : Int) (μ : Me) : Option (Me) :=
  whileO (fun s : Int × Me => s_X11_divides_l33_st a0 x1 x2 x3 x4 s.1 s.2) (x5, μ)
theorem e_X11_divides_l33 (a0 : Nat) (x1 : Int) (x2 : Int) (x3 : Int) (x4 : Int) (x5 : Int) (μ : Me) : s_X11_divides_l33 a0 x1 x2 x3 x4 x5 μ = (s_X11_divides_l33_st a0 x1 x2 x3 x4 x5 μ).bind fun x => x.elim (fun s : Int × Me => s_X11_divides_l33 a0 x1 x2 x3 x4 s.1 s.2) some := whileO_eq _ _
theorem w_X11_divides_l33 {Z : Zt} {fin : Me} {w : (Me)} (C : CX Z yX11_divides cX11_divides none 5 8) {a0 : Nat} {x1 : Int} {x2 : Int} {x3 : Int} {x4 : Int} {x5 : Int} {μ : Me} (h : s_X11_divides_l33 a0 x1 x2 x3 x4 x5 μ = some w) (hK : (fun r : Me => r = fin) w) : WL Z (QN Z none fin) μ 33 [(0, vO a0), (1, vI x1), (2, vI x2), (3, vI x3), (4, vI x4), (5, vI x5)] [] := by
  refine whileO_walk (w := w) (fun s : Int × Me => WL Z (QN Z none fin) s.2 33 [(0, vO a0), (1, vI x1), (2, vI x2), (3, vI x3), (4, vI x4), (5, vI s.1)] []) (fun s v h2 hi hr => ?_) (x5, μ) h
  refine w_X11_divides_l33_st (fin := fin) C h2 ?_
  cases v with
  | inl s2 => exact hi s2 rfl
  | inr r => have e := hr r rfl; subst e; exact hK
noncomputable def s_X11_divides (a0 : Nat) (x1 : Int) (x2 : Int) (x3 : Int) (μ : Me) : Option (Me) :=
  (ck μ 9 a0).bind fun _ =>
  (s_X11_of a0 x2 0 μ).bind fun q1 =>
  (ck q1.2 9 a0).bind fun _ =>
  (s_X11_inverse a0 q1.1 q1.2).bind fun q3 =>
  (gR q3.2 9 a0 4).bind fun v5 =>
  (aI q3.2 101 v5 x1).bind fun v6 =>
  (gR q3.2 9 a0 4).bind fun v7 =>
  (aI q3.2 101 v7 x2).bind fun v8 =>
  (ck q3.2 9 a0).bind fun _ =>
  (s_X11_clears a0 x3 (v6 - v8) q3.2).bind fun q9 =>
  s_X11_divides_l33 a0 x1 x2 x3 q3.1 0 q9
theorem w_X11_divides {Z : Zt} {fin : Me} {w : Me} (C : CX Z yX11_divides cX11_divides none 5 8) {a0 : Nat} {x1 : Int} {x2 : Int} {x3 : Int} {μ : Me} (h : s_X11_divides a0 x1 x2 x3 μ = some w) (hK : w = fin) : WL Z (QN Z none fin) μ 0 [(0, vO a0), (1, vI x1), (2, vI x2), (3, vI x3)] [] := by
  unfold s_X11_divides at h
  refine r_aload_n C 0 dX11_divides_0 rfl rfl ?_
  refine r_aload_n C 0 dX11_divides_1 rfl rfl ?_
  refine r_iload_n C 2 dX11_divides_2 rfl rfl ?_
  refine r_iconst C dX11_divides_3 ?_
  obtain ⟨u2, eu2, h⟩ := bs h
  obtain ⟨q1, eq1, h⟩ := bs h
  refine r_callV C (As := [vI x2, vI 0]) (b := a0) (rest := [vO a0]) (st1 := [vI q1.1, vO a0]) (v := some (vI q1.1)) (r := (RX11, TX11, 38)) (ci := 9) rfl eu2 (m_X11_of C.tr eq1) (lw_V q1629 q1631 qs70 q133 q1632) rfl hdX11_of rfl rfl (Nat.le_of_ble_eq_true rfl) ⟨by decide, by decide⟩ dX11_divides_4 rfl ?_
  obtain ⟨u4, eu4, h⟩ := bs h
  obtain ⟨q3, eq3, h⟩ := bs h
  refine r_callV C (As := [vI q1.1]) (b := a0) (rest := []) (st1 := [vI q3.1]) (v := some (vI q3.1)) (r := (RX11, TX11, 38)) (ci := 9) rfl eu4 (m_X11_inverse C.tr eq3) (lw_V q1581 q1583 qs62 q133 q1584) rfl hdX11_inverse rfl rfl (Nat.le_of_ble_eq_true rfl) ⟨by decide, by decide⟩ dX11_divides_7 rfl ?_
  refine r_istore C [(4, vI q3.1), (0, vO a0), (1, vI x1), (2, vI x2), (3, vI x3)] dX11_divides_10 (by decide) rfl ?_
  refine r_aload_n C 1 dX11_divides_12 rfl rfl ?_
  refine r_iload_n C 4 dX11_divides_13 rfl rfl ?_
  refine r_aload_n C 1 dX11_divides_14 rfl rfl ?_
  obtain ⟨v5, ev5, h⟩ := bs h
  refine r_getR C (c := 9) (r := (RX11, TX11, 38)) rfl 4 (by decide) rfl ev5 q1317 dX11_divides_15 ?_
  refine r_iload_n C 2 dX11_divides_18 rfl rfl ?_
  obtain ⟨v6, ev6, h⟩ := bs h
  refine r_iald C ev6 dX11_divides_19 ?_
  refine r_aload_n C 1 dX11_divides_20 rfl rfl ?_
  obtain ⟨v7, ev7, h⟩ := bs h
  refine r_getR C (c := 9) (r := (RX11, TX11, 38)) rfl 4 (by decide) rfl ev7 q1317 dX11_divides_21 ?_
  refine r_iload_n C 3 dX11_divides_24 rfl rfl ?_
  obtain ⟨v8, ev8, h⟩ := bs h
  refine r_iald C ev8 dX11_divides_25 ?_
  refine r_isub C dX11_divides_26 ?_
  obtain ⟨u10, eu10, h⟩ := bs h
  obtain ⟨q9, eq9, h⟩ := bs h
  refine r_callV C (As := [vI x3, vI (v6 - v8)]) (b := a0) (rest := []) (st1 := []) (v := none) (r := (RX11, TX11, 38)) (ci := 9) rfl eu10 (m_X11_clears C.tr eq9) (lw_V q1645 q1647 qs73 q133 q1648) rfl hdX11_clears rfl rfl (Nat.le_of_ble_eq_true rfl) ⟨by decide, by decide⟩ dX11_divides_27 rfl ?_
  refine r_iconst C dX11_divides_30 ?_
  refine r_istore C [(5, vI 0), (4, vI q3.1), (0, vO a0), (1, vI x1), (2, vI x2), (3, vI x3)] dX11_divides_31 (by decide) rfl ?_
  refine r_sub [2, 3, 4, 5, 1, 0] rfl ?_
  exact w_X11_divides_l33 (fin := fin) C h hK
theorem hdX11_divides : zhd yX11_divides 3 := by decide +kernel
theorem m_X11_divides {l : Launch} {D : va_G} {b0 : Nat} (hl : l.stackTraces = false) {a0 : Nat} {x1 : Int} {x2 : Int} {x3 : Int} {μ : Me} {w : Me} (h : s_X11_divides a0 x1 x2 x3 μ = some w) : MN l D b0 yX11_divides (ws_ yX11_divides cX11_divides 8 none) 5 [vO a0, vI x1, vI x2, vI x3] μ none w :=
  MN.of hl (by decide +kernel) (Nat.le_of_ble_eq_true rfl) (fun Z C _ _ => w_X11_divides C h rfl)
noncomputable def s_X11_commons_l158_st (a0 : Nat) (x1 : Int) (x3 : Int) (x4 : Int) (μ : Me) : Option ((Int × Me) ⊕ (Me)) :=
  (gR μ 9 a0 4).bind fun v16 =>
  (aI μ 101 v16 41).bind fun v17 =>
  (if w32 v17 < w32 x4 then
  some (.inr μ)
  else
  (ck μ 9 a0).bind fun _ =>
  (s_X11_of a0 41 x4 μ).bind fun q19 =>
  (ck q19.2 9 a0).bind fun _ =>
  (s_X11_times a0 x3 q19.1 q19.2).bind fun q21 =>
  (ck q21.2 9 a0).bind fun _ =>
  (s_X11_put a0 40 (x4 + x1) q21.1 q21.2).bind fun q23 =>
  some (.inl ((x4 + 1), q23)))
theorem w_X11_commons_l158_st {Z : Zt} {fin : Me} {w : ((Int × Me) ⊕ (Me))} (C : CX Z yX11_commons cX11_commons none 6 5) {a0 : Nat} {x1 : Int} {x3 : Int} {x4 : Int} {μ : Me} (h : s_X11_commons_l158_st a0 x1 x3 x4 μ = some w) (hK : (Sum.elim (fun s : Int × Me => WL Z (QN Z none fin) s.2 158 [(0, vO a0), (1, vI x1), (3, vI x3), (4, vI s.1)] []) (fun r : Me => r = fin)) w) : WL Z (QN Z none fin) μ 158 [(0, vO a0), (1, vI x1), (3, vI x3), (4, vI x4)] [] := by
  unfold s_X11_commons_l158_st at h
  refine r_iload C 3 dX11_commons_158 rfl ?_
  refine r_aload_n C 0 dX11_commons_160 rfl rfl ?_
  obtain ⟨v16, ev16, h⟩ := bs h
  refine r_getR C (c := 9) (r := (RX11, TX11, 38)) rfl 4 (by decide) rfl ev16 q1317 dX11_commons_161 ?_
  refine r_bipush C dX11_commons_164 (by decide) ?_
  obtain ⟨v17, ev17, h⟩ := bs h
  refine r_iald C ev17 dX11_commons_166 ?_
  refine r_icmp_gt C dX11_commons_167 (tgt := 199) (by decide) (fun c18 => ?_) (fun c18 => ?_)
  · have h := it_ h c18
    cases h
    exact r_vret C hK dX11_commons_199
  · have h := ie_ h c18
    refine r_aload_n C 0 dX11_commons_170 rfl rfl ?_
    refine r_bipush C dX11_commons_171 (by decide) ?_
    refine r_iload C 3 dX11_commons_173 rfl ?_
    refine r_iload_n C 1 dX11_commons_175 rfl rfl ?_
    refine r_iadd C dX11_commons_176 ?_
    refine r_aload_n C 0 dX11_commons_177 rfl rfl ?_
    refine r_iload_n C 2 dX11_commons_178 rfl rfl ?_
    refine r_aload_n C 0 dX11_commons_179 rfl rfl ?_
    refine r_bipush C dX11_commons_180 (by decide) ?_
    refine r_iload C 3 dX11_commons_182 rfl ?_
    obtain ⟨u20, eu20, h⟩ := bs h
    obtain ⟨q19, eq19, h⟩ := bs h
    refine r_callV C (As := [vI 41, vI x4]) (b := a0) (rest := [vI x3, vO a0, vI (x4 + x1), vI 40, vO a0]) (st1 := [vI q19.1, vI x3, vO a0, vI (x4 + x1), vI 40, vO a0]) (v := some (vI q19.1)) (r := (RX11, TX11, 38)) (ci := 9) rfl eu20 (m_X11_of C.tr eq19) (lw_V q1629 q1631 qs70 q133 q1632) rfl hdX11_of rfl rfl (Nat.le_of_ble_eq_true rfl) ⟨by decide, by decide⟩ dX11_commons_184 rfl ?_
    obtain ⟨u22, eu22, h⟩ := bs h
    obtain ⟨q21, eq21, h⟩ := bs h
    refine r_callV C (As := [vI x3, vI q19.1]) (b := a0) (rest := [vI (x4 + x1), vI 40, vO a0]) (st1 := [vI q21.1, vI (x4 + x1), vI 40, vO a0]) (v := some (vI q21.1)) (r := (RX11, TX11, 38)) (ci := 9) rfl eu22 (m_X11_times C.tr eq21) (lw_V q1541 q1543 qs54 q133 q1544) rfl hdX11_times rfl rfl (Nat.le_of_ble_eq_true rfl) ⟨by decide, by decide⟩ dX11_commons_187 rfl ?_
    obtain ⟨u24, eu24, h⟩ := bs h
    obtain ⟨q23, eq23, h⟩ := bs h
    refine r_callV C (As := [vI 40, vI (x4 + x1), vI q21.1]) (b := a0) (rest := []) (st1 := []) (v := none) (r := (RX11, TX11, 38)) (ci := 9) rfl eu24 (m_X11_put C.tr eq23) (lw_V q1621 q1623 qs68 q133 q1624) rfl hdX11_put rfl rfl (Nat.le_of_ble_eq_true rfl) ⟨by decide, by decide⟩ dX11_commons_190 rfl ?_
    refine r_iinc C 3 [(4, vI (x4 + 1)), (0, vO a0), (1, vI x1), (3, vI x3)] dX11_commons_193 rfl (by decide) rfl ?_
    refine r_goto C dX11_commons_196 (tgt := 158) (by decide) ?_
    cases h
    refine r_sub [1, 2, 3, 0] rfl ?_
    exact hK
noncomputable def s_X11_commons_l158 (a0 : Nat) (x1 : Int) (x3 : Int) (x4 : Int) (μ : Me) : Option (Me) :=
  whileO (fun s : Int × Me => s_X11_commons_l158_st a0 x1 x3 s.1 s.2) (x4, μ)
theorem e_X11_commons_l158 (a0 : Nat) (x1 : Int) (x3 : Int) (x4 : Int) (μ : Me) : s_X11_commons_l158 a0 x1 x3 x4 μ = (s_X11_commons_l158_st a0 x1 x3 x4 μ).bind fun x => x.elim (fun s : Int × Me => s_X11_commons_l158 a0 x1 x3 s.1 s.2) some := whileO_eq _ _
theorem w_X11_commons_l158 {Z : Zt} {fin : Me} {w : (Me)} (C : CX Z yX11_commons cX11_commons none 6 5) {a0 : Nat} {x1 : Int} {x3 : Int} {x4 : Int} {μ : Me} (h : s_X11_commons_l158 a0 x1 x3 x4 μ = some w) (hK : (fun r : Me => r = fin) w) : WL Z (QN Z none fin) μ 158 [(0, vO a0), (1, vI x1), (3, vI x3), (4, vI x4)] [] := by
  refine whileO_walk (w := w) (fun s : Int × Me => WL Z (QN Z none fin) s.2 158 [(0, vO a0), (1, vI x1), (3, vI x3), (4, vI s.1)] []) (fun s v h2 hi hr => ?_) (x4, μ) h
  refine w_X11_commons_l158_st (fin := fin) C h2 ?_
  cases v with
  | inl s2 => exact hi s2 rfl
  | inr r => have e := hr r rfl; subst e; exact hK
noncomputable def s_X11_commons_b128 (a0 : Nat) (x1 : Int)  (μ : Me) : Option (Me) :=
  (ck μ 9 a0).bind fun _ =>
  (s_X11_of a0 41 0 μ).bind fun q8 =>
  (ck q8.2 9 a0).bind fun _ =>
  (s_X11_inverse a0 q8.1 q8.2).bind fun q10 =>
  (gR q10.2 9 a0 4).bind fun v12 =>
  (aI q10.2 101 v12 41).bind fun v13 =>
  (ck q10.2 9 a0).bind fun _ =>
  (s_X11_clears a0 40 (v13 + x1) q10.2).bind fun q14 =>
  s_X11_commons_l158 a0 x1 q10.1 0 q14
theorem w_X11_commons_b128 {Z : Zt} {fin : Me} {w : (Me)} (C : CX Z yX11_commons cX11_commons none 6 5) {a0 : Nat} {x1 : Int}  {μ : Me} (h : s_X11_commons_b128 a0 x1 μ = some w) (hK : (fun r : Me => r = fin) w) : WL Z (QN Z none fin) μ 128 [(0, vO a0), (1, vI x1)] [] := by
  unfold s_X11_commons_b128 at h
  refine r_aload_n C 0 dX11_commons_128 rfl rfl ?_
  refine r_aload_n C 0 dX11_commons_129 rfl rfl ?_
  refine r_bipush C dX11_commons_130 (by decide) ?_
  refine r_iconst C dX11_commons_132 ?_
  obtain ⟨u9, eu9, h⟩ := bs h
  obtain ⟨q8, eq8, h⟩ := bs h
  refine r_callV C (As := [vI 41, vI 0]) (b := a0) (rest := [vO a0]) (st1 := [vI q8.1, vO a0]) (v := some (vI q8.1)) (r := (RX11, TX11, 38)) (ci := 9) rfl eu9 (m_X11_of C.tr eq8) (lw_V q1629 q1631 qs70 q133 q1632) rfl hdX11_of rfl rfl (Nat.le_of_ble_eq_true rfl) ⟨by decide, by decide⟩ dX11_commons_133 rfl ?_
  obtain ⟨u11, eu11, h⟩ := bs h
  obtain ⟨q10, eq10, h⟩ := bs h
  refine r_callV C (As := [vI q8.1]) (b := a0) (rest := []) (st1 := [vI q10.1]) (v := some (vI q10.1)) (r := (RX11, TX11, 38)) (ci := 9) rfl eu11 (m_X11_inverse C.tr eq10) (lw_V q1581 q1583 qs62 q133 q1584) rfl hdX11_inverse rfl rfl (Nat.le_of_ble_eq_true rfl) ⟨by decide, by decide⟩ dX11_commons_136 rfl ?_
  refine r_istore_n C [(3, vI q10.1), (0, vO a0), (1, vI x1)] dX11_commons_139 rfl (by decide) rfl ?_
  refine r_aload_n C 1 dX11_commons_140 rfl rfl ?_
  refine r_bipush C dX11_commons_141 (by decide) ?_
  refine r_aload_n C 1 dX11_commons_143 rfl rfl ?_
  obtain ⟨v12, ev12, h⟩ := bs h
  refine r_getR C (c := 9) (r := (RX11, TX11, 38)) rfl 4 (by decide) rfl ev12 q1317 dX11_commons_144 ?_
  refine r_bipush C dX11_commons_147 (by decide) ?_
  obtain ⟨v13, ev13, h⟩ := bs h
  refine r_iald C ev13 dX11_commons_149 ?_
  refine r_iload_n C 2 dX11_commons_150 rfl rfl ?_
  refine r_iadd C dX11_commons_151 ?_
  obtain ⟨u15, eu15, h⟩ := bs h
  obtain ⟨q14, eq14, h⟩ := bs h
  refine r_callV C (As := [vI 40, vI (v13 + x1)]) (b := a0) (rest := []) (st1 := []) (v := none) (r := (RX11, TX11, 38)) (ci := 9) rfl eu15 (m_X11_clears C.tr eq14) (lw_V q1645 q1647 qs73 q133 q1648) rfl hdX11_clears rfl rfl (Nat.le_of_ble_eq_true rfl) ⟨by decide, by decide⟩ dX11_commons_152 rfl ?_
  refine r_iconst C dX11_commons_155 ?_
  refine r_istore C [(4, vI 0), (3, vI q10.1), (0, vO a0), (1, vI x1)] dX11_commons_156 (by decide) rfl ?_
  refine r_sub [2, 3, 1, 0] rfl ?_
  exact w_X11_commons_l158 (fin := fin) C h hK
noncomputable def s_X11_commons_b70 (a0 : Nat) (x1 : Int) (x2 : Int)  (μ : Me) : Option ((Int × Me) ⊕ (Me)) :=
  (ck μ 9 a0).bind fun _ =>
  (s_X11_divides a0 40 41 43 μ).bind fun q30 =>
  (ck q30 9 a0).bind fun _ =>
  (s_X11_isNought a0 40 q30).bind fun q32 =>
  (if w32 q32.1 = 0 then
  (ck q32.2 9 a0).bind fun _ =>
  (s_X11_strips a0 40 q32.2).bind fun q35 =>
  (ck q35.2 9 a0).bind fun _ =>
  (s_X11_copies a0 40 42 q35.2).bind fun q37 =>
  (ck q37 9 a0).bind fun _ =>
  (s_X11_copies a0 41 40 q37).bind fun q39 =>
  (ck q39 9 a0).bind fun _ =>
  (s_X11_copies a0 42 41 q39).bind fun q41 =>
  some (.inl (x2, q41))
  else
  some (.inl (0, q32.2)))
theorem w_X11_commons_b70 {Z : Zt} {fin : Me} {w : ((Int × Me) ⊕ (Me))} (C : CX Z yX11_commons cX11_commons none 6 5) {a0 : Nat} {x1 : Int} {x2 : Int}  {μ : Me} (h : s_X11_commons_b70 a0 x1 x2 μ = some w) (hK : (Sum.elim (fun s : Int × Me => WL Z (QN Z none fin) s.2 25 [(0, vO a0), (1, vI x1), (2, vI s.1)] []) (fun r : Me => r = fin)) w) : WL Z (QN Z none fin) μ 70 [(0, vO a0), (1, vI x1), (2, vI x2)] [] := by
  unfold s_X11_commons_b70 at h
  refine r_aload_n C 0 dX11_commons_70 rfl rfl ?_
  refine r_bipush C dX11_commons_71 (by decide) ?_
  refine r_bipush C dX11_commons_73 (by decide) ?_
  refine r_bipush C dX11_commons_75 (by decide) ?_
  obtain ⟨u31, eu31, h⟩ := bs h
  obtain ⟨q30, eq30, h⟩ := bs h
  refine r_callV C (As := [vI 40, vI 41, vI 43]) (b := a0) (rest := []) (st1 := []) (v := none) (r := (RX11, TX11, 38)) (ci := 9) rfl eu31 (m_X11_divides C.tr eq30) (lw_V q1880 q1882 qs111 q133 q1883) rfl hdX11_divides rfl rfl (Nat.le_of_ble_eq_true rfl) ⟨by decide, by decide⟩ dX11_commons_77 rfl ?_
  refine r_aload_n C 0 dX11_commons_80 rfl rfl ?_
  refine r_bipush C dX11_commons_81 (by decide) ?_
  obtain ⟨u33, eu33, h⟩ := bs h
  obtain ⟨q32, eq32, h⟩ := bs h
  refine r_callV C (As := [vI 40]) (b := a0) (rest := []) (st1 := [vI q32.1]) (v := some (vI q32.1)) (r := (RX11, TX11, 38)) (ci := 9) rfl eu33 (m_X11_isNought C.tr eq32) (lw_V q1787 q1789 qs96 q133 q1790) rfl hdX11_isNought rfl rfl (Nat.le_of_ble_eq_true rfl) ⟨by decide, by decide⟩ dX11_commons_83 rfl ?_
  refine r_if_eq C dX11_commons_86 (tgt := 94) (by decide) (fun c34 => ?_) (fun c34 => ?_)
  · have h := it_ h c34
    refine r_aload_n C 0 dX11_commons_94 rfl rfl ?_
    refine r_bipush C dX11_commons_95 (by decide) ?_
    obtain ⟨u36, eu36, h⟩ := bs h
    obtain ⟨q35, eq35, h⟩ := bs h
    refine r_callV C (As := [vI 40]) (b := a0) (rest := []) (st1 := [vI q35.1]) (v := some (vI q35.1)) (r := (RX11, TX11, 38)) (ci := 9) rfl eu36 (m_X11_strips C.tr eq35) (lw_V q1875 q1877 qs110 q133 q1878) rfl hdX11_strips rfl rfl (Nat.le_of_ble_eq_true rfl) ⟨by decide, by decide⟩ dX11_commons_97 rfl ?_
    refine r_pop C dX11_commons_100 rfl ?_
    refine r_aload_n C 0 dX11_commons_101 rfl rfl ?_
    refine r_bipush C dX11_commons_102 (by decide) ?_
    refine r_bipush C dX11_commons_104 (by decide) ?_
    obtain ⟨u38, eu38, h⟩ := bs h
    obtain ⟨q37, eq37, h⟩ := bs h
    refine r_callV C (As := [vI 40, vI 42]) (b := a0) (rest := []) (st1 := []) (v := none) (r := (RX11, TX11, 38)) (ci := 9) rfl eu38 (m_X11_copies C.tr eq37) (lw_V q1689 q1691 qs81 q133 q1692) rfl hdX11_copies rfl rfl (Nat.le_of_ble_eq_true rfl) ⟨by decide, by decide⟩ dX11_commons_106 rfl ?_
    refine r_aload_n C 0 dX11_commons_109 rfl rfl ?_
    refine r_bipush C dX11_commons_110 (by decide) ?_
    refine r_bipush C dX11_commons_112 (by decide) ?_
    obtain ⟨u40, eu40, h⟩ := bs h
    obtain ⟨q39, eq39, h⟩ := bs h
    refine r_callV C (As := [vI 41, vI 40]) (b := a0) (rest := []) (st1 := []) (v := none) (r := (RX11, TX11, 38)) (ci := 9) rfl eu40 (m_X11_copies C.tr eq39) (lw_V q1689 q1691 qs81 q133 q1692) rfl hdX11_copies rfl rfl (Nat.le_of_ble_eq_true rfl) ⟨by decide, by decide⟩ dX11_commons_114 rfl ?_
    refine r_aload_n C 0 dX11_commons_117 rfl rfl ?_
    refine r_bipush C dX11_commons_118 (by decide) ?_
    refine r_bipush C dX11_commons_120 (by decide) ?_
    obtain ⟨u42, eu42, h⟩ := bs h
    obtain ⟨q41, eq41, h⟩ := bs h
    refine r_callV C (As := [vI 42, vI 41]) (b := a0) (rest := []) (st1 := []) (v := none) (r := (RX11, TX11, 38)) (ci := 9) rfl eu42 (m_X11_copies C.tr eq41) (lw_V q1689 q1691 qs81 q133 q1692) rfl hdX11_copies rfl rfl (Nat.le_of_ble_eq_true rfl) ⟨by decide, by decide⟩ dX11_commons_122 rfl ?_
    refine r_goto C dX11_commons_125 (tgt := 25) (by decide) ?_
    cases h
    exact hK
  · have h := ie_ h c34
    refine r_iconst C dX11_commons_89 ?_
    refine r_istore_n C [(2, vI 0), (0, vO a0), (1, vI x1)] dX11_commons_90 rfl (by decide) rfl ?_
    refine r_goto C dX11_commons_91 (tgt := 25) (by decide) ?_
    cases h
    refine r_sub [1, 2, 0] rfl ?_
    exact hK
noncomputable def s_X11_commons_l25_st (a0 : Nat) (x1 : Int) (x2 : Int) (μ : Me) : Option ((Int × Me) ⊕ (Me)) :=
  (if w32 x2 = 0 then
  (s_X11_commons_b128 a0 x1 μ).map Sum.inr
  else
  (gR μ 9 a0 4).bind fun v25 =>
  (aI μ 101 v25 40).bind fun v26 =>
  (gR μ 9 a0 4).bind fun v27 =>
  (aI μ 101 v27 41).bind fun v28 =>
  (if w32 v28 ≤ w32 v26 then
  s_X11_commons_b70 a0 x1 x2 μ
  else
  (ck μ 9 a0).bind fun _ =>
  (s_X11_copies a0 40 42 μ).bind fun q43 =>
  (ck q43 9 a0).bind fun _ =>
  (s_X11_copies a0 41 40 q43).bind fun q45 =>
  (ck q45 9 a0).bind fun _ =>
  (s_X11_copies a0 42 41 q45).bind fun q47 =>
  s_X11_commons_b70 a0 x1 x2 q47))
theorem w_X11_commons_l25_st {Z : Zt} {fin : Me} {w : ((Int × Me) ⊕ (Me))} (C : CX Z yX11_commons cX11_commons none 6 5) {a0 : Nat} {x1 : Int} {x2 : Int} {μ : Me} (h : s_X11_commons_l25_st a0 x1 x2 μ = some w) (hK : (Sum.elim (fun s : Int × Me => WL Z (QN Z none fin) s.2 25 [(0, vO a0), (1, vI x1), (2, vI s.1)] []) (fun r : Me => r = fin)) w) : WL Z (QN Z none fin) μ 25 [(0, vO a0), (1, vI x1), (2, vI x2)] [] := by
  unfold s_X11_commons_l25_st at h
  refine r_iload_n C 2 dX11_commons_25 rfl rfl ?_
  refine r_if_eq C dX11_commons_26 (tgt := 128) (by decide) (fun c7 => ?_) (fun c7 => ?_)
  · have h := it_ h c7
    obtain ⟨z, hz, ez⟩ := ms_ h; clear h; subst ez; have h := hz; clear hz
    refine r_sub [0, 1] rfl ?_
    exact w_X11_commons_b128 (fin := fin) C h hK
  · have h := ie_ h c7
    refine r_aload_n C 0 dX11_commons_29 rfl rfl ?_
    obtain ⟨v25, ev25, h⟩ := bs h
    refine r_getR C (c := 9) (r := (RX11, TX11, 38)) rfl 4 (by decide) rfl ev25 q1317 dX11_commons_30 ?_
    refine r_bipush C dX11_commons_33 (by decide) ?_
    obtain ⟨v26, ev26, h⟩ := bs h
    refine r_iald C ev26 dX11_commons_35 ?_
    refine r_aload_n C 0 dX11_commons_36 rfl rfl ?_
    obtain ⟨v27, ev27, h⟩ := bs h
    refine r_getR C (c := 9) (r := (RX11, TX11, 38)) rfl 4 (by decide) rfl ev27 q1317 dX11_commons_37 ?_
    refine r_bipush C dX11_commons_40 (by decide) ?_
    obtain ⟨v28, ev28, h⟩ := bs h
    refine r_iald C ev28 dX11_commons_42 ?_
    refine r_icmp_ge C dX11_commons_43 (tgt := 70) (by decide) (fun c29 => ?_) (fun c29 => ?_)
    · have h := it_ h c29
      exact w_X11_commons_b70 (fin := fin) C h hK
    · have h := ie_ h c29
      refine r_aload_n C 0 dX11_commons_46 rfl rfl ?_
      refine r_bipush C dX11_commons_47 (by decide) ?_
      refine r_bipush C dX11_commons_49 (by decide) ?_
      obtain ⟨u44, eu44, h⟩ := bs h
      obtain ⟨q43, eq43, h⟩ := bs h
      refine r_callV C (As := [vI 40, vI 42]) (b := a0) (rest := []) (st1 := []) (v := none) (r := (RX11, TX11, 38)) (ci := 9) rfl eu44 (m_X11_copies C.tr eq43) (lw_V q1689 q1691 qs81 q133 q1692) rfl hdX11_copies rfl rfl (Nat.le_of_ble_eq_true rfl) ⟨by decide, by decide⟩ dX11_commons_51 rfl ?_
      refine r_aload_n C 0 dX11_commons_54 rfl rfl ?_
      refine r_bipush C dX11_commons_55 (by decide) ?_
      refine r_bipush C dX11_commons_57 (by decide) ?_
      obtain ⟨u46, eu46, h⟩ := bs h
      obtain ⟨q45, eq45, h⟩ := bs h
      refine r_callV C (As := [vI 41, vI 40]) (b := a0) (rest := []) (st1 := []) (v := none) (r := (RX11, TX11, 38)) (ci := 9) rfl eu46 (m_X11_copies C.tr eq45) (lw_V q1689 q1691 qs81 q133 q1692) rfl hdX11_copies rfl rfl (Nat.le_of_ble_eq_true rfl) ⟨by decide, by decide⟩ dX11_commons_59 rfl ?_
      refine r_aload_n C 0 dX11_commons_62 rfl rfl ?_
      refine r_bipush C dX11_commons_63 (by decide) ?_
      refine r_bipush C dX11_commons_65 (by decide) ?_
      obtain ⟨u48, eu48, h⟩ := bs h
      obtain ⟨q47, eq47, h⟩ := bs h
      refine r_callV C (As := [vI 42, vI 41]) (b := a0) (rest := []) (st1 := []) (v := none) (r := (RX11, TX11, 38)) (ci := 9) rfl eu48 (m_X11_copies C.tr eq47) (lw_V q1689 q1691 qs81 q133 q1692) rfl hdX11_copies rfl rfl (Nat.le_of_ble_eq_true rfl) ⟨by decide, by decide⟩ dX11_commons_67 rfl ?_
      exact w_X11_commons_b70 (fin := fin) C h hK
noncomputable def s_X11_commons_l25 (a0 : Nat) (x1 : Int) (x2 : Int) (μ : Me) : Option (Me) :=
  whileO (fun s : Int × Me => s_X11_commons_l25_st a0 x1 s.1 s.2) (x2, μ)
theorem e_X11_commons_l25 (a0 : Nat) (x1 : Int) (x2 : Int) (μ : Me) : s_X11_commons_l25 a0 x1 x2 μ = (s_X11_commons_l25_st a0 x1 x2 μ).bind fun x => x.elim (fun s : Int × Me => s_X11_commons_l25 a0 x1 s.1 s.2) some := whileO_eq _ _
theorem w_X11_commons_l25 {Z : Zt} {fin : Me} {w : (Me)} (C : CX Z yX11_commons cX11_commons none 6 5) {a0 : Nat} {x1 : Int} {x2 : Int} {μ : Me} (h : s_X11_commons_l25 a0 x1 x2 μ = some w) (hK : (fun r : Me => r = fin) w) : WL Z (QN Z none fin) μ 25 [(0, vO a0), (1, vI x1), (2, vI x2)] [] := by
  refine whileO_walk (w := w) (fun s : Int × Me => WL Z (QN Z none fin) s.2 25 [(0, vO a0), (1, vI x1), (2, vI s.1)] []) (fun s v h2 hi hr => ?_) (x2, μ) h
  refine w_X11_commons_l25_st (fin := fin) C h2 ?_
  cases v with
  | inl s2 => exact hi s2 rfl
  | inr r => have e := hr r rfl; subst e; exact hK
noncomputable def s_X11_commons (a0 : Nat) (μ : Me) : Option (Me) :=
  (ck μ 9 a0).bind fun _ =>
  (s_X11_strips a0 40 μ).bind fun q1 =>
  (s_J6_min q1.1 99 q1.2).bind fun q3 =>
  (ck q3.2 9 a0).bind fun _ =>
  (s_X11_strips a0 41 q3.2).bind fun q4 =>
  (s_J6_min q3.1 q4.1 q4.2).bind fun q6 =>
  s_X11_commons_l25 a0 q6.1 1 q6.2
theorem w_X11_commons {Z : Zt} {fin : Me} {w : Me} (C : CX Z yX11_commons cX11_commons none 6 5) {a0 : Nat} {μ : Me} (h : s_X11_commons a0 μ = some w) (hK : w = fin) : WL Z (QN Z none fin) μ 0 [(0, vO a0)] [] := by
  unfold s_X11_commons at h
  refine r_aload_n C 0 dX11_commons_0 rfl rfl ?_
  refine r_bipush C dX11_commons_1 (by decide) ?_
  obtain ⟨u2, eu2, h⟩ := bs h
  obtain ⟨q1, eq1, h⟩ := bs h
  refine r_callV C (As := [vI 40]) (b := a0) (rest := []) (st1 := [vI q1.1]) (v := some (vI q1.1)) (r := (RX11, TX11, 38)) (ci := 9) rfl eu2 (m_X11_strips C.tr eq1) (lw_V q1875 q1877 qs110 q133 q1878) rfl hdX11_strips rfl rfl (Nat.le_of_ble_eq_true rfl) ⟨by decide, by decide⟩ dX11_commons_3 rfl ?_
  refine r_bipush C dX11_commons_6 (by decide) ?_
  obtain ⟨q3, eq3, h⟩ := bs h
  refine r_callS C (As := [vI q1.1, vI 99]) (rest := []) (st1 := [vI q3.1]) (v := some (vI q3.1)) (m_J6_min C.tr eq3) (lw_S q1879 q927 q137 q928) hdJ6_min rfl rfl (Nat.le_of_ble_eq_true rfl) ⟨by decide, by decide⟩ dX11_commons_8 rfl ?_
  refine r_istore_n C [(1, vI q3.1), (0, vO a0)] dX11_commons_11 rfl (by decide) rfl ?_
  refine r_iload_n C 0 dX11_commons_12 rfl rfl ?_
  refine r_aload_n C 1 dX11_commons_13 rfl rfl ?_
  refine r_bipush C dX11_commons_14 (by decide) ?_
  obtain ⟨u5, eu5, h⟩ := bs h
  obtain ⟨q4, eq4, h⟩ := bs h
  refine r_callV C (As := [vI 41]) (b := a0) (rest := [vI q3.1]) (st1 := [vI q4.1, vI q3.1]) (v := some (vI q4.1)) (r := (RX11, TX11, 38)) (ci := 9) rfl eu5 (m_X11_strips C.tr eq4) (lw_V q1875 q1877 qs110 q133 q1878) rfl hdX11_strips rfl rfl (Nat.le_of_ble_eq_true rfl) ⟨by decide, by decide⟩ dX11_commons_16 rfl ?_
  obtain ⟨q6, eq6, h⟩ := bs h
  refine r_callS C (As := [vI q3.1, vI q4.1]) (rest := []) (st1 := [vI q6.1]) (v := some (vI q6.1)) (m_J6_min C.tr eq6) (lw_S q1879 q927 q137 q928) hdJ6_min rfl rfl (Nat.le_of_ble_eq_true rfl) ⟨by decide, by decide⟩ dX11_commons_19 rfl ?_
  refine r_istore_n C [(1, vI q6.1), (0, vO a0)] dX11_commons_22 rfl (by decide) rfl ?_
  refine r_iconst C dX11_commons_23 ?_
  refine r_istore_n C [(2, vI 1), (1, vI q6.1), (0, vO a0)] dX11_commons_24 rfl (by decide) rfl ?_
  refine r_sub [2, 1, 0] rfl ?_
  exact w_X11_commons_l25 (fin := fin) C h hK
theorem hdX11_commons : zhd yX11_commons 0 := by decide +kernel
theorem m_X11_commons {l : Launch} {D : va_G} {b0 : Nat} (hl : l.stackTraces = false) {a0 : Nat} {μ : Me} {w : Me} (h : s_X11_commons a0 μ = some w) : MN l D b0 yX11_commons (ws_ yX11_commons cX11_commons 5 none) 6 [vO a0] μ none w :=
  MN.of hl (by decide +kernel) (Nat.le_of_ble_eq_true rfl) (fun Z C _ _ => w_X11_commons C h rfl)
noncomputable def s_X11_toldOf (a0 : Nat) (x1 : Int) (x2 : Int) (μ : Me) : Option (Int × Me) :=
  (if w32 x2 = w32 (-1) then
  (gR μ 9 a0 4).bind fun v8 =>
  (aI μ 101 v8 x1).bind fun v9 =>
  some (v9, μ)
  else
  (gR μ 9 a0 4).bind fun v2 =>
  (aI μ 101 v2 x1).bind fun v3 =>
  (s_X11_in x2 0 v3 μ).bind fun q4 =>
  (if w32 q4.1 = 0 then
  some ((-1), q4.2)
  else
  (ck q4.2 9 a0).bind fun _ =>
  (s_X11_of a0 x1 x2 q4.2).bind fun q6 =>
  some (q6.1, q6.2)))
theorem w_X11_toldOf {Z : Zt} {fin : Int × Me} {w : Int × Me} (C : CX Z yX11_toldOf cX11_toldOf (some .int) 2 3) {a0 : Nat} {x1 : Int} {x2 : Int} {μ : Me} (h : s_X11_toldOf a0 x1 x2 μ = some w) (hK : w = fin) : WL Z (QN Z (some (vI fin.1)) fin.2) μ 0 [(0, vO a0), (1, vI x1), (2, vI x2)] [] := by
  unfold s_X11_toldOf at h
  refine r_iload_n C 2 dX11_toldOf_0 rfl rfl ?_
  refine r_iconst C dX11_toldOf_1 ?_
  refine r_icmp_ne C dX11_toldOf_2 (tgt := 14) (by decide) (fun c1 => ?_) (fun c1 => ?_)
  · have h := ie_ h c1
    refine r_iload_n C 2 dX11_toldOf_14 rfl rfl ?_
    refine r_iconst C dX11_toldOf_15 ?_
    refine r_aload_n C 0 dX11_toldOf_16 rfl rfl ?_
    obtain ⟨v2, ev2, h⟩ := bs h
    refine r_getR C (c := 9) (r := (RX11, TX11, 38)) rfl 4 (by decide) rfl ev2 q1317 dX11_toldOf_17 ?_
    refine r_iload_n C 1 dX11_toldOf_20 rfl rfl ?_
    obtain ⟨v3, ev3, h⟩ := bs h
    refine r_iald C ev3 dX11_toldOf_21 ?_
    obtain ⟨q4, eq4, h⟩ := bs h
    refine r_callS C (As := [vI x2, vI 0, vI v3]) (rest := []) (st1 := [vI q4.1]) (v := some (vI q4.1)) (m_X11_in C.tr eq4) (lw_S q1512 q1513 q133 q1514) hdX11_in rfl rfl (Nat.le_of_ble_eq_true rfl) ⟨by decide, by decide⟩ dX11_toldOf_22 rfl ?_
    refine r_if_eq C dX11_toldOf_25 (tgt := 37) (by decide) (fun c5 => ?_) (fun c5 => ?_)
    · have h := it_ h c5
      refine r_iconst C dX11_toldOf_37 ?_
      cases h
      exact r_iret C hK dX11_toldOf_38
    · have h := ie_ h c5
      refine r_aload_n C 0 dX11_toldOf_28 rfl rfl ?_
      refine r_iload_n C 1 dX11_toldOf_29 rfl rfl ?_
      refine r_iload_n C 2 dX11_toldOf_30 rfl rfl ?_
      obtain ⟨u7, eu7, h⟩ := bs h
      obtain ⟨q6, eq6, h⟩ := bs h
      refine r_callV C (As := [vI x1, vI x2]) (b := a0) (rest := []) (st1 := [vI q6.1]) (v := some (vI q6.1)) (r := (RX11, TX11, 38)) (ci := 9) rfl eu7 (m_X11_of C.tr eq6) (lw_V q1629 q1631 qs70 q133 q1632) rfl hdX11_of rfl rfl (Nat.le_of_ble_eq_true rfl) ⟨by decide, by decide⟩ dX11_toldOf_31 rfl ?_
      refine r_goto C dX11_toldOf_34 (tgt := 38) (by decide) ?_
      cases h
      exact r_iret C hK dX11_toldOf_38
  · have h := it_ h c1
    refine r_aload_n C 0 dX11_toldOf_5 rfl rfl ?_
    obtain ⟨v8, ev8, h⟩ := bs h
    refine r_getR C (c := 9) (r := (RX11, TX11, 38)) rfl 4 (by decide) rfl ev8 q1317 dX11_toldOf_6 ?_
    refine r_iload_n C 1 dX11_toldOf_9 rfl rfl ?_
    obtain ⟨v9, ev9, h⟩ := bs h
    refine r_iald C ev9 dX11_toldOf_10 ?_
    refine r_goto C dX11_toldOf_11 (tgt := 38) (by decide) ?_
    cases h
    exact r_iret C hK dX11_toldOf_38
theorem hdX11_toldOf : zhd yX11_toldOf 2 := by decide +kernel
theorem m_X11_toldOf {l : Launch} {D : va_G} {b0 : Nat} (hl : l.stackTraces = false) {a0 : Nat} {x1 : Int} {x2 : Int} {μ : Me} {w : Int × Me} (h : s_X11_toldOf a0 x1 x2 μ = some w) : MN l D b0 yX11_toldOf (ws_ yX11_toldOf cX11_toldOf 3 (some .int)) 2 [vO a0, vI x1, vI x2] μ (some (vI w.1)) w.2 :=
  MN.of hl (by decide +kernel) (Nat.le_of_ble_eq_true rfl) (fun Z C _ _ => w_X11_toldOf C h rfl)
noncomputable def s_X11_common_b27 (a0 : Nat) (x1 : Int) (x2 : Int) (x3 : Int) (t0 : Int) (t1 : Nat) (μ : Me) : Option (Int × Me) :=
  (ck μ 9 t1).bind fun _ =>
  (s_X11_throwsIf t1 t0 1 μ).bind fun q5 =>
  (if w32 q5.1 = 0 then
  (ck q5.2 9 a0).bind fun _ =>
  (s_X11_takes a0 40 x1 q5.2).bind fun q8 =>
  (ck q8 9 a0).bind fun _ =>
  (s_X11_takes a0 41 x2 q8).bind fun q10 =>
  (ck q10 9 a0).bind fun _ =>
  (s_X11_isNought a0 40 q10).bind fun q12 =>
  (if w32 q12.1 = 0 then
  (ck q12.2 9 a0).bind fun _ =>
  (s_X11_isNought a0 41 q12.2).bind fun q15 =>
  (if w32 q15.1 = 0 then
  (ck q15.2 9 a0).bind fun _ =>
  (s_X11_commons a0  q15.2).bind fun q18 =>
  (ck q18 9 a0).bind fun _ =>
  (s_X11_toldOf a0 40 x3 q18).bind fun q20 =>
  some (q20.1, q20.2)
  else
  some ((-2), q15.2))
  else
  some ((-2), q12.2))
  else
  some (0, q5.2))
theorem w_X11_common_b27 {Z : Zt} {fin : Int × Me} {w : (Int × Me)} (C : CX Z yX11_common cX11_common (some .int) 7 4) {a0 : Nat} {x1 : Int} {x2 : Int} {x3 : Int} {t0 : Int} {t1 : Nat} {μ : Me} (h : s_X11_common_b27 a0 x1 x2 x3 t0 t1 μ = some w) (hK : (fun r : Int × Me => r = fin) w) : WL Z (QN Z (some (vI fin.1)) fin.2) μ 27 [(0, vO a0), (1, vI x1), (2, vI x2), (3, vI x3)] [vI t0, vO t1] := by
  unfold s_X11_common_b27 at h
  refine r_iconst C dX11_common_27 ?_
  obtain ⟨u6, eu6, h⟩ := bs h
  obtain ⟨q5, eq5, h⟩ := bs h
  refine r_callV C (As := [vI t0, vI 1]) (b := t1) (rest := []) (st1 := [vI q5.1]) (v := some (vI q5.1)) (r := (RX11, TX11, 38)) (ci := 9) rfl eu6 (m_X11_throwsIf C.tr eq5) (lw_V q1500 q1502 qs49 q133 q1503) rfl hdX11_throwsIf rfl rfl (Nat.le_of_ble_eq_true rfl) ⟨by decide, by decide⟩ dX11_common_28 rfl ?_
  refine r_if_eq C dX11_common_31 (tgt := 36) (by decide) (fun c7 => ?_) (fun c7 => ?_)
  · have h := it_ h c7
    refine r_aload_n C 0 dX11_common_36 rfl rfl ?_
    refine r_bipush C dX11_common_37 (by decide) ?_
    refine r_iload_n C 1 dX11_common_39 rfl rfl ?_
    obtain ⟨u9, eu9, h⟩ := bs h
    obtain ⟨q8, eq8, h⟩ := bs h
    refine r_callV C (As := [vI 40, vI x1]) (b := a0) (rest := []) (st1 := []) (v := none) (r := (RX11, TX11, 38)) (ci := 9) rfl eu9 (m_X11_takes C.tr eq8) (lw_V q1617 q1619 qs67 q133 q1620) rfl hdX11_takes rfl rfl (Nat.le_of_ble_eq_true rfl) ⟨by decide, by decide⟩ dX11_common_40 rfl ?_
    refine r_aload_n C 0 dX11_common_43 rfl rfl ?_
    refine r_bipush C dX11_common_44 (by decide) ?_
    refine r_iload_n C 2 dX11_common_46 rfl rfl ?_
    obtain ⟨u11, eu11, h⟩ := bs h
    obtain ⟨q10, eq10, h⟩ := bs h
    refine r_callV C (As := [vI 41, vI x2]) (b := a0) (rest := []) (st1 := []) (v := none) (r := (RX11, TX11, 38)) (ci := 9) rfl eu11 (m_X11_takes C.tr eq10) (lw_V q1617 q1619 qs67 q133 q1620) rfl hdX11_takes rfl rfl (Nat.le_of_ble_eq_true rfl) ⟨by decide, by decide⟩ dX11_common_47 rfl ?_
    refine r_aload_n C 0 dX11_common_50 rfl rfl ?_
    refine r_bipush C dX11_common_51 (by decide) ?_
    obtain ⟨u13, eu13, h⟩ := bs h
    obtain ⟨q12, eq12, h⟩ := bs h
    refine r_callV C (As := [vI 40]) (b := a0) (rest := []) (st1 := [vI q12.1]) (v := some (vI q12.1)) (r := (RX11, TX11, 38)) (ci := 9) rfl eu13 (m_X11_isNought C.tr eq12) (lw_V q1787 q1789 qs96 q133 q1790) rfl hdX11_isNought rfl rfl (Nat.le_of_ble_eq_true rfl) ⟨by decide, by decide⟩ dX11_common_53 rfl ?_
    refine r_if_ne C dX11_common_56 (tgt := 68) (by decide) (fun c14 => ?_) (fun c14 => ?_)
    · have h := ie_ h c14
      refine r_bipush C dX11_common_68 (by decide) ?_
      cases h
      exact r_iret C hK dX11_common_70
    · have h := it_ h c14
      refine r_aload_n C 0 dX11_common_59 rfl rfl ?_
      refine r_bipush C dX11_common_60 (by decide) ?_
      obtain ⟨u16, eu16, h⟩ := bs h
      obtain ⟨q15, eq15, h⟩ := bs h
      refine r_callV C (As := [vI 41]) (b := a0) (rest := []) (st1 := [vI q15.1]) (v := some (vI q15.1)) (r := (RX11, TX11, 38)) (ci := 9) rfl eu16 (m_X11_isNought C.tr eq15) (lw_V q1787 q1789 qs96 q133 q1790) rfl hdX11_isNought rfl rfl (Nat.le_of_ble_eq_true rfl) ⟨by decide, by decide⟩ dX11_common_62 rfl ?_
      refine r_if_eq C dX11_common_65 (tgt := 71) (by decide) (fun c17 => ?_) (fun c17 => ?_)
      · have h := it_ h c17
        refine r_aload_n C 0 dX11_common_71 rfl rfl ?_
        obtain ⟨u19, eu19, h⟩ := bs h
        obtain ⟨q18, eq18, h⟩ := bs h
        refine r_callV C (As := []) (b := a0) (rest := []) (st1 := []) (v := none) (r := (RX11, TX11, 38)) (ci := 9) rfl eu19 (m_X11_commons C.tr eq18) (lw_V q1871 q1873 qs109 q133 q1874) rfl hdX11_commons rfl rfl (Nat.le_of_ble_eq_true rfl) ⟨by decide, by decide⟩ dX11_common_72 rfl ?_
        refine r_aload_n C 0 dX11_common_75 rfl rfl ?_
        refine r_bipush C dX11_common_76 (by decide) ?_
        refine r_iload_n C 3 dX11_common_78 rfl rfl ?_
        obtain ⟨u21, eu21, h⟩ := bs h
        obtain ⟨q20, eq20, h⟩ := bs h
        refine r_callV C (As := [vI 40, vI x3]) (b := a0) (rest := []) (st1 := [vI q20.1]) (v := some (vI q20.1)) (r := (RX11, TX11, 38)) (ci := 9) rfl eu21 (m_X11_toldOf C.tr eq20) (lw_V q1884 q1886 qs112 q133 q1887) rfl hdX11_toldOf rfl rfl (Nat.le_of_ble_eq_true rfl) ⟨by decide, by decide⟩ dX11_common_79 rfl ?_
        cases h
        exact r_iret C hK dX11_common_82
      · have h := ie_ h c17
        refine r_bipush C dX11_common_68 (by decide) ?_
        cases h
        exact r_iret C hK dX11_common_70
  · have h := ie_ h c7
    refine r_iconst C dX11_common_34 ?_
    cases h
    exact r_iret C hK dX11_common_35
noncomputable def s_X11_common_b22 (a0 : Nat) (x1 : Int) (x2 : Int) (x3 : Int) (t0 : Nat) (μ : Me) : Option (Int × Me) :=
  s_X11_common_b27 a0 x1 x2 x3 1 t0 μ
theorem w_X11_common_b22 {Z : Zt} {fin : Int × Me} {w : (Int × Me)} (C : CX Z yX11_common cX11_common (some .int) 7 4) {a0 : Nat} {x1 : Int} {x2 : Int} {x3 : Int} {t0 : Nat} {μ : Me} (h : s_X11_common_b22 a0 x1 x2 x3 t0 μ = some w) (hK : (fun r : Int × Me => r = fin) w) : WL Z (QN Z (some (vI fin.1)) fin.2) μ 22 [(0, vO a0), (1, vI x1), (2, vI x2), (3, vI x3)] [vO t0] := by
  unfold s_X11_common_b22 at h
  refine r_iconst C dX11_common_22 ?_
  refine r_goto C dX11_common_23 (tgt := 27) (by decide) ?_
  exact w_X11_common_b27 (fin := fin) C h hK
noncomputable def s_X11_common (a0 : Nat) (x1 : Int) (x2 : Int) (x3 : Int) (μ : Me) : Option (Int × Me) :=
  (pI μ 9 a0 0 0).bind fun m1 =>
  (ck m1 9 a0).bind fun _ =>
  (s_X11_noForm a0 x1 m1).bind fun q2 =>
  (if w32 q2.1 = 0 then
  (ck q2.2 9 a0).bind fun _ =>
  (s_X11_noForm a0 x2 q2.2).bind fun q22 =>
  (if w32 q22.1 = 0 then
  s_X11_common_b27 a0 x1 x2 x3 0 a0 q22.2
  else
  s_X11_common_b22 a0 x1 x2 x3 a0 q22.2)
  else
  s_X11_common_b22 a0 x1 x2 x3 a0 q2.2)
theorem w_X11_common {Z : Zt} {fin : Int × Me} {w : Int × Me} (C : CX Z yX11_common cX11_common (some .int) 7 4) {a0 : Nat} {x1 : Int} {x2 : Int} {x3 : Int} {μ : Me} (h : s_X11_common a0 x1 x2 x3 μ = some w) (hK : w = fin) : WL Z (QN Z (some (vI fin.1)) fin.2) μ 0 [(0, vO a0), (1, vI x1), (2, vI x2), (3, vI x3)] [] := by
  unfold s_X11_common at h
  refine r_aload_n C 0 dX11_common_0 rfl rfl ?_
  refine r_iconst C dX11_common_1 ?_
  obtain ⟨m1, em1, h⟩ := bs h
  refine r_putI C (c := 9) (r := (RX11, TX11, 38)) rfl 0 (by decide) rfl ⟨rfl, rfl⟩ rfl em1 q1313 dX11_common_2 ?_
  refine r_aload_n C 0 dX11_common_5 rfl rfl ?_
  refine r_aload_n C 0 dX11_common_6 rfl rfl ?_
  refine r_iload_n C 1 dX11_common_7 rfl rfl ?_
  obtain ⟨u3, eu3, h⟩ := bs h
  obtain ⟨q2, eq2, h⟩ := bs h
  refine r_callV C (As := [vI x1]) (b := a0) (rest := [vO a0]) (st1 := [vI q2.1, vO a0]) (v := some (vI q2.1)) (r := (RX11, TX11, 38)) (ci := 9) rfl eu3 (m_X11_noForm C.tr eq2) (lw_V q1601 q1603 qs64 q133 q1604) rfl hdX11_noForm rfl rfl (Nat.le_of_ble_eq_true rfl) ⟨by decide, by decide⟩ dX11_common_8 rfl ?_
  refine r_if_ne C dX11_common_11 (tgt := 22) (by decide) (fun c4 => ?_) (fun c4 => ?_)
  · have h := ie_ h c4
    exact w_X11_common_b22 (fin := fin) C h hK
  · have h := it_ h c4
    refine r_aload_n C 0 dX11_common_14 rfl rfl ?_
    refine r_iload_n C 2 dX11_common_15 rfl rfl ?_
    obtain ⟨u23, eu23, h⟩ := bs h
    obtain ⟨q22, eq22, h⟩ := bs h
    refine r_callV C (As := [vI x2]) (b := a0) (rest := [vO a0]) (st1 := [vI q22.1, vO a0]) (v := some (vI q22.1)) (r := (RX11, TX11, 38)) (ci := 9) rfl eu23 (m_X11_noForm C.tr eq22) (lw_V q1601 q1603 qs64 q133 q1604) rfl hdX11_noForm rfl rfl (Nat.le_of_ble_eq_true rfl) ⟨by decide, by decide⟩ dX11_common_16 rfl ?_
    refine r_if_eq C dX11_common_19 (tgt := 26) (by decide) (fun c24 => ?_) (fun c24 => ?_)
    · have h := it_ h c24
      refine r_iconst C dX11_common_26 ?_
      exact w_X11_common_b27 (fin := fin) C h hK
    · have h := ie_ h c24
      exact w_X11_common_b22 (fin := fin) C h hK
theorem hdX11_common : zhd yX11_common 3 := by decide +kernel
theorem m_X11_common {l : Launch} {D : va_G} {b0 : Nat} (hl : l.stackTraces = false) {a0 : Nat} {x1 : Int} {x2 : Int} {x3 : Int} {μ : Me} {w : Int × Me} (h : s_X11_common a0 x1 x2 x3 μ = some w) : MN l D b0 yX11_common (ws_ yX11_common cX11_common 4 (some .int)) 7 [vO a0, vI x1, vI x2, vI x3] μ (some (vI w.1)) w.2 :=
  MN.of hl (by decide +kernel) (Nat.le_of_ble_eq_true rfl) (fun Z C _ _ => w_X11_common C h rfl)
noncomputable def s_X11_hasQuotient_l129_st (a0 : Nat) (x2 : Int) (x3 : Int) (μ : Me) : Option ((Int × Me) ⊕ (Int × Me)) :=
  (gR μ 9 a0 4).bind fun v33 =>
  (aI μ 101 v33 43).bind fun v34 =>
  (if w32 v34 < w32 x3 then
  some (.inr (1, μ))
  else
  (ck μ 9 a0).bind fun _ =>
  (s_X11_of a0 43 x3 μ).bind fun q36 =>
  (ck q36.2 9 a0).bind fun _ =>
  (s_X11_put a0 42 (x3 + x2) q36.1 q36.2).bind fun q38 =>
  some (.inl ((x3 + 1), q38)))
theorem w_X11_hasQuotient_l129_st {Z : Zt} {fin : Int × Me} {w : ((Int × Me) ⊕ (Int × Me))} (C : CX Z yX11_hasQuotient cX11_hasQuotient (some .boolean) 6 4) {a0 : Nat} {x2 : Int} {x3 : Int} {μ : Me} (h : s_X11_hasQuotient_l129_st a0 x2 x3 μ = some w) (hK : (Sum.elim (fun s : Int × Me => WL Z (QN Z (some (vI fin.1)) fin.2) s.2 129 [(0, vO a0), (2, vI x2), (3, vI s.1)] []) (fun r : Int × Me => r = fin)) w) : WL Z (QN Z (some (vI fin.1)) fin.2) μ 129 [(0, vO a0), (2, vI x2), (3, vI x3)] [] := by
  unfold s_X11_hasQuotient_l129_st at h
  refine r_iload_n C 2 dX11_hasQuotient_129 rfl rfl ?_
  refine r_aload_n C 0 dX11_hasQuotient_130 rfl rfl ?_
  obtain ⟨v33, ev33, h⟩ := bs h
  refine r_getR C (c := 9) (r := (RX11, TX11, 38)) rfl 4 (by decide) rfl ev33 q1317 dX11_hasQuotient_131 ?_
  refine r_bipush C dX11_hasQuotient_134 (by decide) ?_
  obtain ⟨v34, ev34, h⟩ := bs h
  refine r_iald C ev34 dX11_hasQuotient_136 ?_
  refine r_icmp_gt C dX11_hasQuotient_137 (tgt := 162) (by decide) (fun c35 => ?_) (fun c35 => ?_)
  · have h := it_ h c35
    refine r_iconst C dX11_hasQuotient_162 ?_
    cases h
    exact r_zret C (Or.inr rfl) hK dX11_hasQuotient_163
  · have h := ie_ h c35
    refine r_aload_n C 0 dX11_hasQuotient_140 rfl rfl ?_
    refine r_bipush C dX11_hasQuotient_141 (by decide) ?_
    refine r_iload_n C 2 dX11_hasQuotient_143 rfl rfl ?_
    refine r_iload_n C 1 dX11_hasQuotient_144 rfl rfl ?_
    refine r_iadd C dX11_hasQuotient_145 ?_
    refine r_aload_n C 0 dX11_hasQuotient_146 rfl rfl ?_
    refine r_bipush C dX11_hasQuotient_147 (by decide) ?_
    refine r_iload_n C 2 dX11_hasQuotient_149 rfl rfl ?_
    obtain ⟨u37, eu37, h⟩ := bs h
    obtain ⟨q36, eq36, h⟩ := bs h
    refine r_callV C (As := [vI 43, vI x3]) (b := a0) (rest := [vI (x3 + x2), vI 42, vO a0]) (st1 := [vI q36.1, vI (x3 + x2), vI 42, vO a0]) (v := some (vI q36.1)) (r := (RX11, TX11, 38)) (ci := 9) rfl eu37 (m_X11_of C.tr eq36) (lw_V q1629 q1631 qs70 q133 q1632) rfl hdX11_of rfl rfl (Nat.le_of_ble_eq_true rfl) ⟨by decide, by decide⟩ dX11_hasQuotient_150 rfl ?_
    obtain ⟨u39, eu39, h⟩ := bs h
    obtain ⟨q38, eq38, h⟩ := bs h
    refine r_callV C (As := [vI 42, vI (x3 + x2), vI q36.1]) (b := a0) (rest := []) (st1 := []) (v := none) (r := (RX11, TX11, 38)) (ci := 9) rfl eu39 (m_X11_put C.tr eq38) (lw_V q1621 q1623 qs68 q133 q1624) rfl hdX11_put rfl rfl (Nat.le_of_ble_eq_true rfl) ⟨by decide, by decide⟩ dX11_hasQuotient_153 rfl ?_
    refine r_iinc C 2 [(3, vI (x3 + 1)), (0, vO a0), (2, vI x2)] dX11_hasQuotient_156 rfl (by decide) rfl ?_
    refine r_goto C dX11_hasQuotient_159 (tgt := 129) (by decide) ?_
    cases h
    refine r_sub [1, 2, 0] rfl ?_
    exact hK
noncomputable def s_X11_hasQuotient_l129 (a0 : Nat) (x2 : Int) (x3 : Int) (μ : Me) : Option (Int × Me) :=
  whileO (fun s : Int × Me => s_X11_hasQuotient_l129_st a0 x2 s.1 s.2) (x3, μ)
theorem e_X11_hasQuotient_l129 (a0 : Nat) (x2 : Int) (x3 : Int) (μ : Me) : s_X11_hasQuotient_l129 a0 x2 x3 μ = (s_X11_hasQuotient_l129_st a0 x2 x3 μ).bind fun x => x.elim (fun s : Int × Me => s_X11_hasQuotient_l129 a0 x2 s.1 s.2) some := whileO_eq _ _
theorem w_X11_hasQuotient_l129 {Z : Zt} {fin : Int × Me} {w : (Int × Me)} (C : CX Z yX11_hasQuotient cX11_hasQuotient (some .boolean) 6 4) {a0 : Nat} {x2 : Int} {x3 : Int} {μ : Me} (h : s_X11_hasQuotient_l129 a0 x2 x3 μ = some w) (hK : (fun r : Int × Me => r = fin) w) : WL Z (QN Z (some (vI fin.1)) fin.2) μ 129 [(0, vO a0), (2, vI x2), (3, vI x3)] [] := by
  refine whileO_walk (w := w) (fun s : Int × Me => WL Z (QN Z (some (vI fin.1)) fin.2) s.2 129 [(0, vO a0), (2, vI x2), (3, vI s.1)] []) (fun s v h2 hi hr => ?_) (x3, μ) h
  refine w_X11_hasQuotient_l129_st (fin := fin) C h2 ?_
  cases v with
  | inl s2 => exact hi s2 rfl
  | inr r => have e := hr r rfl; subst e; exact hK
noncomputable def s_X11_hasQuotient (a0 : Nat) (μ : Me) : Option (Int × Me) :=
  (ck μ 9 a0).bind fun _ =>
  (s_X11_isNought a0 41 μ).bind fun q1 =>
  (if w32 q1.1 = 0 then
  (gR q1.2 9 a0 4).bind fun v4 =>
  (aI q1.2 101 v4 40).bind fun v5 =>
  (gR q1.2 9 a0 4).bind fun v6 =>
  (aI q1.2 101 v6 41).bind fun v7 =>
  (if w32 v7 ≤ w32 v5 then
  (gR q1.2 9 a0 4).bind fun v9 =>
  (aI q1.2 101 v9 40).bind fun v10 =>
  (gR q1.2 9 a0 4).bind fun v11 =>
  (aI q1.2 101 v11 41).bind fun v12 =>
  (ck q1.2 9 a0).bind fun _ =>
  (s_X11_isNought a0 40 q1.2).bind fun q13 =>
  (if w32 q13.1 = 0 then
  (ck q13.2 9 a0).bind fun _ =>
  (s_X11_strips a0 40 q13.2).bind fun q16 =>
  (ck q16.2 9 a0).bind fun _ =>
  (s_X11_strips a0 41 q16.2).bind fun q18 =>
  (if w32 (q16.1 - q18.1) < 0 then
  some (0, q18.2)
  else
  (gR q18.2 9 a0 4).bind fun v21 =>
  (aI q18.2 101 v21 40).bind fun v22 =>
  (gR q18.2 9 a0 4).bind fun v23 =>
  (aI q18.2 101 v23 41).bind fun v24 =>
  (if w32 v24 ≤ w32 v22 then
  (ck q18.2 9 a0).bind fun _ =>
  (s_X11_divides a0 40 41 43 q18.2).bind fun q26 =>
  (ck q26 9 a0).bind fun _ =>
  (s_X11_isNought a0 40 q26).bind fun q28 =>
  (if w32 q28.1 = 0 then
  some (0, q28.2)
  else
  (ck q28.2 9 a0).bind fun _ =>
  (s_X11_clears a0 42 (v10 - v12) q28.2).bind fun q31 =>
  s_X11_hasQuotient_l129 a0 (q16.1 - q18.1) 0 q31)
  else
  some (0, q18.2)))
  else
  (ck q13.2 9 a0).bind fun _ =>
  (s_X11_clears a0 42 (v10 - v12) q13.2).bind fun q40 =>
  some (1, q40))
  else
  some (0, q1.2))
  else
  some (0, q1.2))
theorem w_X11_hasQuotient {Z : Zt} {fin : Int × Me} {w : Int × Me} (C : CX Z yX11_hasQuotient cX11_hasQuotient (some .boolean) 6 4) {a0 : Nat} {μ : Me} (h : s_X11_hasQuotient a0 μ = some w) (hK : w = fin) : WL Z (QN Z (some (vI fin.1)) fin.2) μ 0 [(0, vO a0)] [] := by
  unfold s_X11_hasQuotient at h
  refine r_aload_n C 0 dX11_hasQuotient_0 rfl rfl ?_
  refine r_bipush C dX11_hasQuotient_1 (by decide) ?_
  obtain ⟨u2, eu2, h⟩ := bs h
  obtain ⟨q1, eq1, h⟩ := bs h
  refine r_callV C (As := [vI 41]) (b := a0) (rest := []) (st1 := [vI q1.1]) (v := some (vI q1.1)) (r := (RX11, TX11, 38)) (ci := 9) rfl eu2 (m_X11_isNought C.tr eq1) (lw_V q1787 q1789 qs96 q133 q1790) rfl hdX11_isNought rfl rfl (Nat.le_of_ble_eq_true rfl) ⟨by decide, by decide⟩ dX11_hasQuotient_3 rfl ?_
  refine r_if_ne C dX11_hasQuotient_6 (tgt := 26) (by decide) (fun c3 => ?_) (fun c3 => ?_)
  · have h := ie_ h c3
    refine r_iconst C dX11_hasQuotient_26 ?_
    cases h
    exact r_zret C (Or.inl rfl) hK dX11_hasQuotient_27
  · have h := it_ h c3
    refine r_aload_n C 0 dX11_hasQuotient_9 rfl rfl ?_
    obtain ⟨v4, ev4, h⟩ := bs h
    refine r_getR C (c := 9) (r := (RX11, TX11, 38)) rfl 4 (by decide) rfl ev4 q1317 dX11_hasQuotient_10 ?_
    refine r_bipush C dX11_hasQuotient_13 (by decide) ?_
    obtain ⟨v5, ev5, h⟩ := bs h
    refine r_iald C ev5 dX11_hasQuotient_15 ?_
    refine r_aload_n C 0 dX11_hasQuotient_16 rfl rfl ?_
    obtain ⟨v6, ev6, h⟩ := bs h
    refine r_getR C (c := 9) (r := (RX11, TX11, 38)) rfl 4 (by decide) rfl ev6 q1317 dX11_hasQuotient_17 ?_
    refine r_bipush C dX11_hasQuotient_20 (by decide) ?_
    obtain ⟨v7, ev7, h⟩ := bs h
    refine r_iald C ev7 dX11_hasQuotient_22 ?_
    refine r_icmp_ge C dX11_hasQuotient_23 (tgt := 28) (by decide) (fun c8 => ?_) (fun c8 => ?_)
    · have h := it_ h c8
      refine r_aload_n C 0 dX11_hasQuotient_28 rfl rfl ?_
      obtain ⟨v9, ev9, h⟩ := bs h
      refine r_getR C (c := 9) (r := (RX11, TX11, 38)) rfl 4 (by decide) rfl ev9 q1317 dX11_hasQuotient_29 ?_
      refine r_bipush C dX11_hasQuotient_32 (by decide) ?_
      obtain ⟨v10, ev10, h⟩ := bs h
      refine r_iald C ev10 dX11_hasQuotient_34 ?_
      refine r_aload_n C 0 dX11_hasQuotient_35 rfl rfl ?_
      obtain ⟨v11, ev11, h⟩ := bs h
      refine r_getR C (c := 9) (r := (RX11, TX11, 38)) rfl 4 (by decide) rfl ev11 q1317 dX11_hasQuotient_36 ?_
      refine r_bipush C dX11_hasQuotient_39 (by decide) ?_
      obtain ⟨v12, ev12, h⟩ := bs h
      refine r_iald C ev12 dX11_hasQuotient_41 ?_
      refine r_isub C dX11_hasQuotient_42 ?_
      refine r_istore_n C [(1, vI (v10 - v12)), (0, vO a0)] dX11_hasQuotient_43 rfl (by decide) rfl ?_
      refine r_aload_n C 1 dX11_hasQuotient_44 rfl rfl ?_
      refine r_bipush C dX11_hasQuotient_45 (by decide) ?_
      obtain ⟨u14, eu14, h⟩ := bs h
      obtain ⟨q13, eq13, h⟩ := bs h
      refine r_callV C (As := [vI 40]) (b := a0) (rest := []) (st1 := [vI q13.1]) (v := some (vI q13.1)) (r := (RX11, TX11, 38)) (ci := 9) rfl eu14 (m_X11_isNought C.tr eq13) (lw_V q1787 q1789 qs96 q133 q1790) rfl hdX11_isNought rfl rfl (Nat.le_of_ble_eq_true rfl) ⟨by decide, by decide⟩ dX11_hasQuotient_47 rfl ?_
      refine r_if_eq C dX11_hasQuotient_50 (tgt := 62) (by decide) (fun c15 => ?_) (fun c15 => ?_)
      · have h := it_ h c15
        refine r_aload_n C 1 dX11_hasQuotient_62 rfl rfl ?_
        refine r_bipush C dX11_hasQuotient_63 (by decide) ?_
        obtain ⟨u17, eu17, h⟩ := bs h
        obtain ⟨q16, eq16, h⟩ := bs h
        refine r_callV C (As := [vI 40]) (b := a0) (rest := []) (st1 := [vI q16.1]) (v := some (vI q16.1)) (r := (RX11, TX11, 38)) (ci := 9) rfl eu17 (m_X11_strips C.tr eq16) (lw_V q1875 q1877 qs110 q133 q1878) rfl hdX11_strips rfl rfl (Nat.le_of_ble_eq_true rfl) ⟨by decide, by decide⟩ dX11_hasQuotient_65 rfl ?_
        refine r_aload_n C 1 dX11_hasQuotient_68 rfl rfl ?_
        refine r_bipush C dX11_hasQuotient_69 (by decide) ?_
        obtain ⟨u19, eu19, h⟩ := bs h
        obtain ⟨q18, eq18, h⟩ := bs h
        refine r_callV C (As := [vI 41]) (b := a0) (rest := [vI q16.1]) (st1 := [vI q18.1, vI q16.1]) (v := some (vI q18.1)) (r := (RX11, TX11, 38)) (ci := 9) rfl eu19 (m_X11_strips C.tr eq18) (lw_V q1875 q1877 qs110 q133 q1878) rfl hdX11_strips rfl rfl (Nat.le_of_ble_eq_true rfl) ⟨by decide, by decide⟩ dX11_hasQuotient_71 rfl ?_
        refine r_isub C dX11_hasQuotient_74 ?_
        refine r_istore_n C [(2, vI (q16.1 - q18.1)), (1, vI (v10 - v12)), (0, vO a0)] dX11_hasQuotient_75 rfl (by decide) rfl ?_
        refine r_iload_n C 0 dX11_hasQuotient_76 rfl rfl ?_
        refine r_if_lt C dX11_hasQuotient_77 (tgt := 97) (by decide) (fun c20 => ?_) (fun c20 => ?_)
        · have h := it_ h c20
          refine r_iconst C dX11_hasQuotient_97 ?_
          cases h
          exact r_zret C (Or.inl rfl) hK dX11_hasQuotient_98
        · have h := ie_ h c20
          refine r_aload_n C 2 dX11_hasQuotient_80 rfl rfl ?_
          obtain ⟨v21, ev21, h⟩ := bs h
          refine r_getR C (c := 9) (r := (RX11, TX11, 38)) rfl 4 (by decide) rfl ev21 q1317 dX11_hasQuotient_81 ?_
          refine r_bipush C dX11_hasQuotient_84 (by decide) ?_
          obtain ⟨v22, ev22, h⟩ := bs h
          refine r_iald C ev22 dX11_hasQuotient_86 ?_
          refine r_aload_n C 2 dX11_hasQuotient_87 rfl rfl ?_
          obtain ⟨v23, ev23, h⟩ := bs h
          refine r_getR C (c := 9) (r := (RX11, TX11, 38)) rfl 4 (by decide) rfl ev23 q1317 dX11_hasQuotient_88 ?_
          refine r_bipush C dX11_hasQuotient_91 (by decide) ?_
          obtain ⟨v24, ev24, h⟩ := bs h
          refine r_iald C ev24 dX11_hasQuotient_93 ?_
          refine r_icmp_ge C dX11_hasQuotient_94 (tgt := 99) (by decide) (fun c25 => ?_) (fun c25 => ?_)
          · have h := it_ h c25
            refine r_aload_n C 2 dX11_hasQuotient_99 rfl rfl ?_
            refine r_bipush C dX11_hasQuotient_100 (by decide) ?_
            refine r_bipush C dX11_hasQuotient_102 (by decide) ?_
            refine r_bipush C dX11_hasQuotient_104 (by decide) ?_
            obtain ⟨u27, eu27, h⟩ := bs h
            obtain ⟨q26, eq26, h⟩ := bs h
            refine r_callV C (As := [vI 40, vI 41, vI 43]) (b := a0) (rest := []) (st1 := []) (v := none) (r := (RX11, TX11, 38)) (ci := 9) rfl eu27 (m_X11_divides C.tr eq26) (lw_V q1880 q1882 qs111 q133 q1883) rfl hdX11_divides rfl rfl (Nat.le_of_ble_eq_true rfl) ⟨by decide, by decide⟩ dX11_hasQuotient_106 rfl ?_
            refine r_aload_n C 2 dX11_hasQuotient_109 rfl rfl ?_
            refine r_bipush C dX11_hasQuotient_110 (by decide) ?_
            obtain ⟨u29, eu29, h⟩ := bs h
            obtain ⟨q28, eq28, h⟩ := bs h
            refine r_callV C (As := [vI 40]) (b := a0) (rest := []) (st1 := [vI q28.1]) (v := some (vI q28.1)) (r := (RX11, TX11, 38)) (ci := 9) rfl eu29 (m_X11_isNought C.tr eq28) (lw_V q1787 q1789 qs96 q133 q1790) rfl hdX11_isNought rfl rfl (Nat.le_of_ble_eq_true rfl) ⟨by decide, by decide⟩ dX11_hasQuotient_112 rfl ?_
            refine r_if_ne C dX11_hasQuotient_115 (tgt := 120) (by decide) (fun c30 => ?_) (fun c30 => ?_)
            · have h := ie_ h c30
              refine r_aload_n C 2 dX11_hasQuotient_120 rfl rfl ?_
              refine r_bipush C dX11_hasQuotient_121 (by decide) ?_
              refine r_iload_n C 1 dX11_hasQuotient_123 rfl rfl ?_
              obtain ⟨u32, eu32, h⟩ := bs h
              obtain ⟨q31, eq31, h⟩ := bs h
              refine r_callV C (As := [vI 42, vI (v10 - v12)]) (b := a0) (rest := []) (st1 := []) (v := none) (r := (RX11, TX11, 38)) (ci := 9) rfl eu32 (m_X11_clears C.tr eq31) (lw_V q1645 q1647 qs73 q133 q1648) rfl hdX11_clears rfl rfl (Nat.le_of_ble_eq_true rfl) ⟨by decide, by decide⟩ dX11_hasQuotient_124 rfl ?_
              refine r_iconst C dX11_hasQuotient_127 ?_
              refine r_istore_n C [(3, vI 0), (2, vI (q16.1 - q18.1)), (1, vI (v10 - v12)), (0, vO a0)] dX11_hasQuotient_128 rfl (by decide) rfl ?_
              refine r_sub [3, 1, 0] rfl ?_
              exact w_X11_hasQuotient_l129 (fin := fin) C h hK
            · have h := it_ h c30
              refine r_iconst C dX11_hasQuotient_118 ?_
              cases h
              exact r_zret C (Or.inl rfl) hK dX11_hasQuotient_119
          · have h := ie_ h c25
            refine r_iconst C dX11_hasQuotient_97 ?_
            cases h
            exact r_zret C (Or.inl rfl) hK dX11_hasQuotient_98
      · have h := ie_ h c15
        refine r_aload_n C 1 dX11_hasQuotient_53 rfl rfl ?_
        refine r_bipush C dX11_hasQuotient_54 (by decide) ?_
        refine r_iload_n C 0 dX11_hasQuotient_56 rfl rfl ?_
        obtain ⟨u41, eu41, h⟩ := bs h
        obtain ⟨q40, eq40, h⟩ := bs h
        refine r_callV C (As := [vI 42, vI (v10 - v12)]) (b := a0) (rest := []) (st1 := []) (v := none) (r := (RX11, TX11, 38)) (ci := 9) rfl eu41 (m_X11_clears C.tr eq40) (lw_V q1645 q1647 qs73 q133 q1648) rfl hdX11_clears rfl rfl (Nat.le_of_ble_eq_true rfl) ⟨by decide, by decide⟩ dX11_hasQuotient_57 rfl ?_
        refine r_iconst C dX11_hasQuotient_60 ?_
        cases h
        exact r_zret C (Or.inr rfl) hK dX11_hasQuotient_61
    · have h := ie_ h c8
      refine r_iconst C dX11_hasQuotient_26 ?_
      cases h
      exact r_zret C (Or.inl rfl) hK dX11_hasQuotient_27
theorem hdX11_hasQuotient : zhd yX11_hasQuotient 0 := by decide +kernel
theorem m_X11_hasQuotient {l : Launch} {D : va_G} {b0 : Nat} (hl : l.stackTraces = false) {a0 : Nat} {μ : Me} {w : Int × Me} (h : s_X11_hasQuotient a0 μ = some w) : MN l D b0 yX11_hasQuotient (ws_ yX11_hasQuotient cX11_hasQuotient 4 (some .boolean)) 6 [vO a0] μ (some (vI w.1)) w.2 :=
  MN.of hl (by decide +kernel) (Nat.le_of_ble_eq_true rfl) (fun Z C _ _ => w_X11_hasQuotient C h rfl)
noncomputable def s_X11_quotient_b27 (a0 : Nat) (x1 : Int) (x2 : Int) (x3 : Int) (t0 : Int) (t1 : Nat) (μ : Me) : Option (Int × Me) :=
  (ck μ 9 t1).bind fun _ =>
  (s_X11_throwsIf t1 t0 1 μ).bind fun q5 =>
  (if w32 q5.1 = 0 then
  (ck q5.2 9 a0).bind fun _ =>
  (s_X11_takes a0 40 x1 q5.2).bind fun q8 =>
  (ck q8 9 a0).bind fun _ =>
  (s_X11_takes a0 41 x2 q8).bind fun q10 =>
  (ck q10 9 a0).bind fun _ =>
  (s_X11_hasQuotient a0  q10).bind fun q12 =>
  (if w32 q12.1 = 0 then
  some ((-2), q12.2)
  else
  (ck q12.2 9 a0).bind fun _ =>
  (s_X11_toldOf a0 42 x3 q12.2).bind fun q15 =>
  some (q15.1, q15.2))
  else
  some (0, q5.2))
theorem w_X11_quotient_b27 {Z : Zt} {fin : Int × Me} {w : (Int × Me)} (C : CX Z yX11_quotient cX11_quotient (some .int) 7 4) {a0 : Nat} {x1 : Int} {x2 : Int} {x3 : Int} {t0 : Int} {t1 : Nat} {μ : Me} (h : s_X11_quotient_b27 a0 x1 x2 x3 t0 t1 μ = some w) (hK : (fun r : Int × Me => r = fin) w) : WL Z (QN Z (some (vI fin.1)) fin.2) μ 27 [(0, vO a0), (1, vI x1), (2, vI x2), (3, vI x3)] [vI t0, vO t1] := by
  unfold s_X11_quotient_b27 at h
  refine r_iconst C dX11_quotient_27 ?_
  obtain ⟨u6, eu6, h⟩ := bs h
  obtain ⟨q5, eq5, h⟩ := bs h
  refine r_callV C (As := [vI t0, vI 1]) (b := t1) (rest := []) (st1 := [vI q5.1]) (v := some (vI q5.1)) (r := (RX11, TX11, 38)) (ci := 9) rfl eu6 (m_X11_throwsIf C.tr eq5) (lw_V q1500 q1502 qs49 q133 q1503) rfl hdX11_throwsIf rfl rfl (Nat.le_of_ble_eq_true rfl) ⟨by decide, by decide⟩ dX11_quotient_28 rfl ?_
  refine r_if_eq C dX11_quotient_31 (tgt := 36) (by decide) (fun c7 => ?_) (fun c7 => ?_)
  · have h := it_ h c7
    refine r_aload_n C 0 dX11_quotient_36 rfl rfl ?_
    refine r_bipush C dX11_quotient_37 (by decide) ?_
    refine r_iload_n C 1 dX11_quotient_39 rfl rfl ?_
    obtain ⟨u9, eu9, h⟩ := bs h
    obtain ⟨q8, eq8, h⟩ := bs h
    refine r_callV C (As := [vI 40, vI x1]) (b := a0) (rest := []) (st1 := []) (v := none) (r := (RX11, TX11, 38)) (ci := 9) rfl eu9 (m_X11_takes C.tr eq8) (lw_V q1617 q1619 qs67 q133 q1620) rfl hdX11_takes rfl rfl (Nat.le_of_ble_eq_true rfl) ⟨by decide, by decide⟩ dX11_quotient_40 rfl ?_
    refine r_aload_n C 0 dX11_quotient_43 rfl rfl ?_
    refine r_bipush C dX11_quotient_44 (by decide) ?_
    refine r_iload_n C 2 dX11_quotient_46 rfl rfl ?_
    obtain ⟨u11, eu11, h⟩ := bs h
    obtain ⟨q10, eq10, h⟩ := bs h
    refine r_callV C (As := [vI 41, vI x2]) (b := a0) (rest := []) (st1 := []) (v := none) (r := (RX11, TX11, 38)) (ci := 9) rfl eu11 (m_X11_takes C.tr eq10) (lw_V q1617 q1619 qs67 q133 q1620) rfl hdX11_takes rfl rfl (Nat.le_of_ble_eq_true rfl) ⟨by decide, by decide⟩ dX11_quotient_47 rfl ?_
    refine r_aload_n C 0 dX11_quotient_50 rfl rfl ?_
    obtain ⟨u13, eu13, h⟩ := bs h
    obtain ⟨q12, eq12, h⟩ := bs h
    refine r_callV C (As := []) (b := a0) (rest := []) (st1 := [vI q12.1]) (v := some (vI q12.1)) (r := (RX11, TX11, 38)) (ci := 9) rfl eu13 (m_X11_hasQuotient C.tr eq12) (lw_V q1892 q1894 qs113 q133 q1895) rfl hdX11_hasQuotient rfl rfl (Nat.le_of_ble_eq_true rfl) ⟨by decide, by decide⟩ dX11_quotient_51 rfl ?_
    refine r_if_eq C dX11_quotient_54 (tgt := 67) (by decide) (fun c14 => ?_) (fun c14 => ?_)
    · have h := it_ h c14
      refine r_bipush C dX11_quotient_67 (by decide) ?_
      cases h
      exact r_iret C hK dX11_quotient_69
    · have h := ie_ h c14
      refine r_aload_n C 0 dX11_quotient_57 rfl rfl ?_
      refine r_bipush C dX11_quotient_58 (by decide) ?_
      refine r_iload_n C 3 dX11_quotient_60 rfl rfl ?_
      obtain ⟨u16, eu16, h⟩ := bs h
      obtain ⟨q15, eq15, h⟩ := bs h
      refine r_callV C (As := [vI 42, vI x3]) (b := a0) (rest := []) (st1 := [vI q15.1]) (v := some (vI q15.1)) (r := (RX11, TX11, 38)) (ci := 9) rfl eu16 (m_X11_toldOf C.tr eq15) (lw_V q1884 q1886 qs112 q133 q1887) rfl hdX11_toldOf rfl rfl (Nat.le_of_ble_eq_true rfl) ⟨by decide, by decide⟩ dX11_quotient_61 rfl ?_
      refine r_goto C dX11_quotient_64 (tgt := 69) (by decide) ?_
      cases h
      exact r_iret C hK dX11_quotient_69
  · have h := ie_ h c7
    refine r_iconst C dX11_quotient_34 ?_
    cases h
    exact r_iret C hK dX11_quotient_35
noncomputable def s_X11_quotient_b22 (a0 : Nat) (x1 : Int) (x2 : Int) (x3 : Int) (t0 : Nat) (μ : Me) : Option (Int × Me) :=
  s_X11_quotient_b27 a0 x1 x2 x3 1 t0 μ
theorem w_X11_quotient_b22 {Z : Zt} {fin : Int × Me} {w : (Int × Me)} (C : CX Z yX11_quotient cX11_quotient (some .int) 7 4) {a0 : Nat} {x1 : Int} {x2 : Int} {x3 : Int} {t0 : Nat} {μ : Me} (h : s_X11_quotient_b22 a0 x1 x2 x3 t0 μ = some w) (hK : (fun r : Int × Me => r = fin) w) : WL Z (QN Z (some (vI fin.1)) fin.2) μ 22 [(0, vO a0), (1, vI x1), (2, vI x2), (3, vI x3)] [vO t0] := by
  unfold s_X11_quotient_b22 at h
  refine r_iconst C dX11_quotient_22 ?_
  refine r_goto C dX11_quotient_23 (tgt := 27) (by decide) ?_
  exact w_X11_quotient_b27 (fin := fin) C h hK
noncomputable def s_X11_quotient (a0 : Nat) (x1 : Int) (x2 : Int) (x3 : Int) (μ : Me) : Option (Int × Me) :=
  (pI μ 9 a0 0 0).bind fun m1 =>
  (ck m1 9 a0).bind fun _ =>
  (s_X11_noForm a0 x1 m1).bind fun q2 =>
  (if w32 q2.1 = 0 then
  (ck q2.2 9 a0).bind fun _ =>
  (s_X11_noForm a0 x2 q2.2).bind fun q17 =>
  (if w32 q17.1 = 0 then
  s_X11_quotient_b27 a0 x1 x2 x3 0 a0 q17.2
  else
  s_X11_quotient_b22 a0 x1 x2 x3 a0 q17.2)
  else
  s_X11_quotient_b22 a0 x1 x2 x3 a0 q2.2)
theorem w_X11_quotient {Z : Zt} {fin : Int × Me} {w : Int × Me} (C : CX Z yX11_quotient cX11_quotient (some .int) 7 4) {a0 : Nat} {x1 : Int} {x2 : Int} {x3 : Int} {μ : Me} (h : s_X11_quotient a0 x1 x2 x3 μ = some w) (hK : w = fin) : WL Z (QN Z (some (vI fin.1)) fin.2) μ 0 [(0, vO a0), (1, vI x1), (2, vI x2), (3, vI x3)] [] := by
  unfold s_X11_quotient at h
  refine r_aload_n C 0 dX11_quotient_0 rfl rfl ?_
  refine r_iconst C dX11_quotient_1 ?_
  obtain ⟨m1, em1, h⟩ := bs h
  refine r_putI C (c := 9) (r := (RX11, TX11, 38)) rfl 0 (by decide) rfl ⟨rfl, rfl⟩ rfl em1 q1313 dX11_quotient_2 ?_
  refine r_aload_n C 0 dX11_quotient_5 rfl rfl ?_
  refine r_aload_n C 0 dX11_quotient_6 rfl rfl ?_
  refine r_iload_n C 1 dX11_quotient_7 rfl rfl ?_
  obtain ⟨u3, eu3, h⟩ := bs h
  obtain ⟨q2, eq2, h⟩ := bs h
  refine r_callV C (As := [vI x1]) (b := a0) (rest := [vO a0]) (st1 := [vI q2.1, vO a0]) (v := some (vI q2.1)) (r := (RX11, TX11, 38)) (ci := 9) rfl eu3 (m_X11_noForm C.tr eq2) (lw_V q1601 q1603 qs64 q133 q1604) rfl hdX11_noForm rfl rfl (Nat.le_of_ble_eq_true rfl) ⟨by decide, by decide⟩ dX11_quotient_8 rfl ?_
  refine r_if_ne C dX11_quotient_11 (tgt := 22) (by decide) (fun c4 => ?_) (fun c4 => ?_)
  · have h := ie_ h c4
    exact w_X11_quotient_b22 (fin := fin) C h hK
  · have h := it_ h c4
    refine r_aload_n C 0 dX11_quotient_14 rfl rfl ?_
    refine r_iload_n C 2 dX11_quotient_15 rfl rfl ?_
    obtain ⟨u18, eu18, h⟩ := bs h
    obtain ⟨q17, eq17, h⟩ := bs h
    refine r_callV C (As := [vI x2]) (b := a0) (rest := [vO a0]) (st1 := [vI q17.1, vO a0]) (v := some (vI q17.1)) (r := (RX11, TX11, 38)) (ci := 9) rfl eu18 (m_X11_noForm C.tr eq17) (lw_V q1601 q1603 qs64 q133 q1604) rfl hdX11_noForm rfl rfl (Nat.le_of_ble_eq_true rfl) ⟨by decide, by decide⟩ dX11_quotient_16 rfl ?_
    refine r_if_eq C dX11_quotient_19 (tgt := 26) (by decide) (fun c19 => ?_) (fun c19 => ?_)
    · have h := it_ h c19
      refine r_iconst C dX11_quotient_26 ?_
      exact w_X11_quotient_b27 (fin := fin) C h hK
    · have h := ie_ h c19
      exact w_X11_quotient_b22 (fin := fin) C h hK
theorem hdX11_quotient : zhd yX11_quotient 3 := by decide +kernel
theorem m_X11_quotient {l : Launch} {D : va_G} {b0 : Nat} (hl : l.stackTraces = false) {a0 : Nat} {x1 : Int} {x2 : Int} {x3 : Int} {μ : Me} {w : Int × Me} (h : s_X11_quotient a0 x1 x2 x3 μ = some w) : MN l D b0 yX11_quotient (ws_ yX11_quotient cX11_quotient 4 (some .int)) 7 [vO a0, vI x1, vI x2, vI x3] μ (some (vI w.1)) w.2 :=
  MN.of hl (by decide +kernel) (Nat.le_of_ble_eq_true rfl) (fun Z C _ _ => w_X11_quotient C h rfl)
noncomputable def s_X11_plain (a0 : Nat) (x1 : Int) (μ : Me) : Option (Int × Me) :=
  (pI μ 9 a0 0 0).bind fun m1 =>
  (ck m1 9 a0).bind fun _ =>
  (s_X11_noForm a0 x1 m1).bind fun q2 =>
  (ck q2.2 9 a0).bind fun _ =>
  (s_X11_throwsIf a0 q2.1 1 q2.2).bind fun q4 =>
  (if w32 q4.1 = 0 then
  (ck q4.2 9 a0).bind fun _ =>
  (s_X11_takes a0 44 x1 q4.2).bind fun q7 =>
  (gR q7 9 a0 4).bind fun v9 =>
  (aI q7 101 v9 44).bind fun v10 =>
  (if w32 v10 < w32 2 then
  some (0, q7)
  else
  (ck q7 9 a0).bind fun _ =>
  (s_X11_isNought a0 44 q7).bind fun q12 =>
  (if w32 q12.1 = 0 then
  (ck q12.2 9 a0).bind fun _ =>
  (s_X11_differentiates a0 44 1 0 40 q12.2).bind fun q15 =>
  (ck q15 9 a0).bind fun _ =>
  (s_X11_differentiates a0 44 0 1 41 q15).bind fun q17 =>
  (ck q17 9 a0).bind fun _ =>
  (s_X11_isNought a0 40 q17).bind fun q19 =>
  (if w32 q19.1 = 0 then
  (ck q19.2 9 a0).bind fun _ =>
  (s_X11_isNought a0 41 q19.2).bind fun q22 =>
  (if w32 q22.1 = 0 then
  (ck q22.2 9 a0).bind fun _ =>
  (s_X11_commons a0  q22.2).bind fun q25 =>
  (gR q25 9 a0 4).bind fun v27 =>
  (aI q25 101 v27 40).bind fun v28 =>
  (if w32 v28 = 0 then
  some (1, q25)
  else
  some (0, q25))
  else
  some (0, q22.2))
  else
  some (0, q19.2))
  else
  some (0, q12.2)))
  else
  some (0, q4.2))
theorem w_X11_plain {Z : Zt} {fin : Int × Me} {w : Int × Me} (C : CX Z yX11_plain cX11_plain (some .boolean) 7 2) {a0 : Nat} {x1 : Int} {μ : Me} (h : s_X11_plain a0 x1 μ = some w) (hK : w = fin) : WL Z (QN Z (some (vI fin.1)) fin.2) μ 0 [(0, vO a0), (1, vI x1)] [] := by
  unfold s_X11_plain at h
  refine r_aload_n C 0 dX11_plain_0 rfl rfl ?_
  refine r_iconst C dX11_plain_1 ?_
  obtain ⟨m1, em1, h⟩ := bs h
  refine r_putI C (c := 9) (r := (RX11, TX11, 38)) rfl 0 (by decide) rfl ⟨rfl, rfl⟩ rfl em1 q1313 dX11_plain_2 ?_
  refine r_aload_n C 0 dX11_plain_5 rfl rfl ?_
  refine r_aload_n C 0 dX11_plain_6 rfl rfl ?_
  refine r_iload_n C 1 dX11_plain_7 rfl rfl ?_
  obtain ⟨u3, eu3, h⟩ := bs h
  obtain ⟨q2, eq2, h⟩ := bs h
  refine r_callV C (As := [vI x1]) (b := a0) (rest := [vO a0]) (st1 := [vI q2.1, vO a0]) (v := some (vI q2.1)) (r := (RX11, TX11, 38)) (ci := 9) rfl eu3 (m_X11_noForm C.tr eq2) (lw_V q1601 q1603 qs64 q133 q1604) rfl hdX11_noForm rfl rfl (Nat.le_of_ble_eq_true rfl) ⟨by decide, by decide⟩ dX11_plain_8 rfl ?_
  refine r_iconst C dX11_plain_11 ?_
  obtain ⟨u5, eu5, h⟩ := bs h
  obtain ⟨q4, eq4, h⟩ := bs h
  refine r_callV C (As := [vI q2.1, vI 1]) (b := a0) (rest := []) (st1 := [vI q4.1]) (v := some (vI q4.1)) (r := (RX11, TX11, 38)) (ci := 9) rfl eu5 (m_X11_throwsIf C.tr eq4) (lw_V q1500 q1502 qs49 q133 q1503) rfl hdX11_throwsIf rfl rfl (Nat.le_of_ble_eq_true rfl) ⟨by decide, by decide⟩ dX11_plain_12 rfl ?_
  refine r_if_eq C dX11_plain_15 (tgt := 20) (by decide) (fun c6 => ?_) (fun c6 => ?_)
  · have h := it_ h c6
    refine r_aload_n C 0 dX11_plain_20 rfl rfl ?_
    refine r_bipush C dX11_plain_21 (by decide) ?_
    refine r_iload_n C 1 dX11_plain_23 rfl rfl ?_
    obtain ⟨u8, eu8, h⟩ := bs h
    obtain ⟨q7, eq7, h⟩ := bs h
    refine r_callV C (As := [vI 44, vI x1]) (b := a0) (rest := []) (st1 := []) (v := none) (r := (RX11, TX11, 38)) (ci := 9) rfl eu8 (m_X11_takes C.tr eq7) (lw_V q1617 q1619 qs67 q133 q1620) rfl hdX11_takes rfl rfl (Nat.le_of_ble_eq_true rfl) ⟨by decide, by decide⟩ dX11_plain_24 rfl ?_
    refine r_aload_n C 0 dX11_plain_27 rfl rfl ?_
    obtain ⟨v9, ev9, h⟩ := bs h
    refine r_getR C (c := 9) (r := (RX11, TX11, 38)) rfl 4 (by decide) rfl ev9 q1317 dX11_plain_28 ?_
    refine r_bipush C dX11_plain_31 (by decide) ?_
    obtain ⟨v10, ev10, h⟩ := bs h
    refine r_iald C ev10 dX11_plain_33 ?_
    refine r_iconst C dX11_plain_34 ?_
    refine r_icmp_lt C dX11_plain_35 (tgt := 47) (by decide) (fun c11 => ?_) (fun c11 => ?_)
    · have h := it_ h c11
      refine r_iconst C dX11_plain_47 ?_
      cases h
      exact r_zret C (Or.inl rfl) hK dX11_plain_48
    · have h := ie_ h c11
      refine r_aload_n C 0 dX11_plain_38 rfl rfl ?_
      refine r_bipush C dX11_plain_39 (by decide) ?_
      obtain ⟨u13, eu13, h⟩ := bs h
      obtain ⟨q12, eq12, h⟩ := bs h
      refine r_callV C (As := [vI 44]) (b := a0) (rest := []) (st1 := [vI q12.1]) (v := some (vI q12.1)) (r := (RX11, TX11, 38)) (ci := 9) rfl eu13 (m_X11_isNought C.tr eq12) (lw_V q1787 q1789 qs96 q133 q1790) rfl hdX11_isNought rfl rfl (Nat.le_of_ble_eq_true rfl) ⟨by decide, by decide⟩ dX11_plain_41 rfl ?_
      refine r_if_eq C dX11_plain_44 (tgt := 49) (by decide) (fun c14 => ?_) (fun c14 => ?_)
      · have h := it_ h c14
        refine r_aload_n C 0 dX11_plain_49 rfl rfl ?_
        refine r_bipush C dX11_plain_50 (by decide) ?_
        refine r_iconst C dX11_plain_52 ?_
        refine r_iconst C dX11_plain_53 ?_
        refine r_bipush C dX11_plain_54 (by decide) ?_
        obtain ⟨u16, eu16, h⟩ := bs h
        obtain ⟨q15, eq15, h⟩ := bs h
        refine r_callV C (As := [vI 44, vI 1, vI 0, vI 40]) (b := a0) (rest := []) (st1 := []) (v := none) (r := (RX11, TX11, 38)) (ci := 9) rfl eu16 (m_X11_differentiates C.tr eq15) (lw_V q1709 q1711 qs86 q133 q1712) rfl hdX11_differentiates rfl rfl (Nat.le_of_ble_eq_true rfl) ⟨by decide, by decide⟩ dX11_plain_56 rfl ?_
        refine r_aload_n C 0 dX11_plain_59 rfl rfl ?_
        refine r_bipush C dX11_plain_60 (by decide) ?_
        refine r_iconst C dX11_plain_62 ?_
        refine r_iconst C dX11_plain_63 ?_
        refine r_bipush C dX11_plain_64 (by decide) ?_
        obtain ⟨u18, eu18, h⟩ := bs h
        obtain ⟨q17, eq17, h⟩ := bs h
        refine r_callV C (As := [vI 44, vI 0, vI 1, vI 41]) (b := a0) (rest := []) (st1 := []) (v := none) (r := (RX11, TX11, 38)) (ci := 9) rfl eu18 (m_X11_differentiates C.tr eq17) (lw_V q1709 q1711 qs86 q133 q1712) rfl hdX11_differentiates rfl rfl (Nat.le_of_ble_eq_true rfl) ⟨by decide, by decide⟩ dX11_plain_66 rfl ?_
        refine r_aload_n C 0 dX11_plain_69 rfl rfl ?_
        refine r_bipush C dX11_plain_70 (by decide) ?_
        obtain ⟨u20, eu20, h⟩ := bs h
        obtain ⟨q19, eq19, h⟩ := bs h
        refine r_callV C (As := [vI 40]) (b := a0) (rest := []) (st1 := [vI q19.1]) (v := some (vI q19.1)) (r := (RX11, TX11, 38)) (ci := 9) rfl eu20 (m_X11_isNought C.tr eq19) (lw_V q1787 q1789 qs96 q133 q1790) rfl hdX11_isNought rfl rfl (Nat.le_of_ble_eq_true rfl) ⟨by decide, by decide⟩ dX11_plain_72 rfl ?_
        refine r_if_ne C dX11_plain_75 (tgt := 87) (by decide) (fun c21 => ?_) (fun c21 => ?_)
        · have h := ie_ h c21
          refine r_iconst C dX11_plain_87 ?_
          cases h
          exact r_zret C (Or.inl rfl) hK dX11_plain_88
        · have h := it_ h c21
          refine r_aload_n C 0 dX11_plain_78 rfl rfl ?_
          refine r_bipush C dX11_plain_79 (by decide) ?_
          obtain ⟨u23, eu23, h⟩ := bs h
          obtain ⟨q22, eq22, h⟩ := bs h
          refine r_callV C (As := [vI 41]) (b := a0) (rest := []) (st1 := [vI q22.1]) (v := some (vI q22.1)) (r := (RX11, TX11, 38)) (ci := 9) rfl eu23 (m_X11_isNought C.tr eq22) (lw_V q1787 q1789 qs96 q133 q1790) rfl hdX11_isNought rfl rfl (Nat.le_of_ble_eq_true rfl) ⟨by decide, by decide⟩ dX11_plain_81 rfl ?_
          refine r_if_eq C dX11_plain_84 (tgt := 89) (by decide) (fun c24 => ?_) (fun c24 => ?_)
          · have h := it_ h c24
            refine r_aload_n C 0 dX11_plain_89 rfl rfl ?_
            obtain ⟨u26, eu26, h⟩ := bs h
            obtain ⟨q25, eq25, h⟩ := bs h
            refine r_callV C (As := []) (b := a0) (rest := []) (st1 := []) (v := none) (r := (RX11, TX11, 38)) (ci := 9) rfl eu26 (m_X11_commons C.tr eq25) (lw_V q1871 q1873 qs109 q133 q1874) rfl hdX11_commons rfl rfl (Nat.le_of_ble_eq_true rfl) ⟨by decide, by decide⟩ dX11_plain_90 rfl ?_
            refine r_aload_n C 0 dX11_plain_93 rfl rfl ?_
            obtain ⟨v27, ev27, h⟩ := bs h
            refine r_getR C (c := 9) (r := (RX11, TX11, 38)) rfl 4 (by decide) rfl ev27 q1317 dX11_plain_94 ?_
            refine r_bipush C dX11_plain_97 (by decide) ?_
            obtain ⟨v28, ev28, h⟩ := bs h
            refine r_iald C ev28 dX11_plain_99 ?_
            refine r_if_ne C dX11_plain_100 (tgt := 107) (by decide) (fun c29 => ?_) (fun c29 => ?_)
            · have h := ie_ h c29
              refine r_iconst C dX11_plain_107 ?_
              cases h
              exact r_zret C (Or.inl rfl) hK dX11_plain_108
            · have h := it_ h c29
              refine r_iconst C dX11_plain_103 ?_
              refine r_goto C dX11_plain_104 (tgt := 108) (by decide) ?_
              cases h
              exact r_zret C (Or.inr rfl) hK dX11_plain_108
          · have h := ie_ h c24
            refine r_iconst C dX11_plain_87 ?_
            cases h
            exact r_zret C (Or.inl rfl) hK dX11_plain_88
      · have h := ie_ h c14
        refine r_iconst C dX11_plain_47 ?_
        cases h
        exact r_zret C (Or.inl rfl) hK dX11_plain_48
  · have h := ie_ h c6
    refine r_iconst C dX11_plain_18 ?_
    cases h
    exact r_zret C (Or.inl rfl) hK dX11_plain_19
theorem hdX11_plain : zhd yX11_plain 1 := by decide +kernel
theorem m_X11_plain {l : Launch} {D : va_G} {b0 : Nat} (hl : l.stackTraces = false) {a0 : Nat} {x1 : Int} {μ : Me} {w : Int × Me} (h : s_X11_plain a0 x1 μ = some w) : MN l D b0 yX11_plain (ws_ yX11_plain cX11_plain 2 (some .boolean)) 7 [vO a0, vI x1] μ (some (vI w.1)) w.2 :=
  MN.of hl (by decide +kernel) (Nat.le_of_ble_eq_true rfl) (fun Z C _ _ => w_X11_plain C h rfl)
noncomputable def s_X11_overlap_b61 (a0 : Nat) (x1 : Int) (x2 : Int) (x3 : Int) (x4 : Int) (t0 : Int) (t1 : Nat) (μ : Me) : Option (Int × Me) :=
  (ck μ 9 t1).bind fun _ =>
  (s_X11_throwsIf t1 t0 2 μ).bind fun q15 =>
  (if w32 q15.1 = 0 then
  (ck q15.2 9 a0).bind fun _ =>
  (s_X11_takes a0 40 x1 q15.2).bind fun q18 =>
  (ck q18 9 a0).bind fun _ =>
  (s_X11_takes a0 41 x2 q18).bind fun q20 =>
  (ck q20 9 a0).bind fun _ =>
  (s_X11_overlaps a0 40 41 x3 42 q20).bind fun q22 =>
  (ck q22 9 a0).bind fun _ =>
  (s_X11_toldOf a0 42 x4 q22).bind fun q24 =>
  some (q24.1, q24.2)
  else
  some (0, q15.2))
theorem w_X11_overlap_b61 {Z : Zt} {fin : Int × Me} {w : (Int × Me)} (C : CX Z yX11_overlap cX11_overlap (some .int) 6 5) {a0 : Nat} {x1 : Int} {x2 : Int} {x3 : Int} {x4 : Int} {t0 : Int} {t1 : Nat} {μ : Me} (h : s_X11_overlap_b61 a0 x1 x2 x3 x4 t0 t1 μ = some w) (hK : (fun r : Int × Me => r = fin) w) : WL Z (QN Z (some (vI fin.1)) fin.2) μ 61 [(0, vO a0), (1, vI x1), (2, vI x2), (3, vI x3), (4, vI x4)] [vI t0, vO t1] := by
  unfold s_X11_overlap_b61 at h
  refine r_iconst C dX11_overlap_61 ?_
  obtain ⟨u16, eu16, h⟩ := bs h
  obtain ⟨q15, eq15, h⟩ := bs h
  refine r_callV C (As := [vI t0, vI 2]) (b := t1) (rest := []) (st1 := [vI q15.1]) (v := some (vI q15.1)) (r := (RX11, TX11, 38)) (ci := 9) rfl eu16 (m_X11_throwsIf C.tr eq15) (lw_V q1500 q1502 qs49 q133 q1503) rfl hdX11_throwsIf rfl rfl (Nat.le_of_ble_eq_true rfl) ⟨by decide, by decide⟩ dX11_overlap_62 rfl ?_
  refine r_if_eq C dX11_overlap_65 (tgt := 70) (by decide) (fun c17 => ?_) (fun c17 => ?_)
  · have h := it_ h c17
    refine r_aload_n C 0 dX11_overlap_70 rfl rfl ?_
    refine r_bipush C dX11_overlap_71 (by decide) ?_
    refine r_iload_n C 1 dX11_overlap_73 rfl rfl ?_
    obtain ⟨u19, eu19, h⟩ := bs h
    obtain ⟨q18, eq18, h⟩ := bs h
    refine r_callV C (As := [vI 40, vI x1]) (b := a0) (rest := []) (st1 := []) (v := none) (r := (RX11, TX11, 38)) (ci := 9) rfl eu19 (m_X11_takes C.tr eq18) (lw_V q1617 q1619 qs67 q133 q1620) rfl hdX11_takes rfl rfl (Nat.le_of_ble_eq_true rfl) ⟨by decide, by decide⟩ dX11_overlap_74 rfl ?_
    refine r_aload_n C 0 dX11_overlap_77 rfl rfl ?_
    refine r_bipush C dX11_overlap_78 (by decide) ?_
    refine r_iload_n C 2 dX11_overlap_80 rfl rfl ?_
    obtain ⟨u21, eu21, h⟩ := bs h
    obtain ⟨q20, eq20, h⟩ := bs h
    refine r_callV C (As := [vI 41, vI x2]) (b := a0) (rest := []) (st1 := []) (v := none) (r := (RX11, TX11, 38)) (ci := 9) rfl eu21 (m_X11_takes C.tr eq20) (lw_V q1617 q1619 qs67 q133 q1620) rfl hdX11_takes rfl rfl (Nat.le_of_ble_eq_true rfl) ⟨by decide, by decide⟩ dX11_overlap_81 rfl ?_
    refine r_aload_n C 0 dX11_overlap_84 rfl rfl ?_
    refine r_bipush C dX11_overlap_85 (by decide) ?_
    refine r_bipush C dX11_overlap_87 (by decide) ?_
    refine r_iload_n C 3 dX11_overlap_89 rfl rfl ?_
    refine r_bipush C dX11_overlap_90 (by decide) ?_
    obtain ⟨u23, eu23, h⟩ := bs h
    obtain ⟨q22, eq22, h⟩ := bs h
    refine r_callV C (As := [vI 40, vI 41, vI x3, vI 42]) (b := a0) (rest := []) (st1 := []) (v := none) (r := (RX11, TX11, 38)) (ci := 9) rfl eu23 (m_X11_overlaps C.tr eq22) (lw_V q1705 q1707 qs85 q133 q1708) rfl hdX11_overlaps rfl rfl (Nat.le_of_ble_eq_true rfl) ⟨by decide, by decide⟩ dX11_overlap_92 rfl ?_
    refine r_aload_n C 0 dX11_overlap_95 rfl rfl ?_
    refine r_bipush C dX11_overlap_96 (by decide) ?_
    refine r_iload C 4 dX11_overlap_98 rfl ?_
    obtain ⟨u25, eu25, h⟩ := bs h
    obtain ⟨q24, eq24, h⟩ := bs h
    refine r_callV C (As := [vI 42, vI x4]) (b := a0) (rest := []) (st1 := [vI q24.1]) (v := some (vI q24.1)) (r := (RX11, TX11, 38)) (ci := 9) rfl eu25 (m_X11_toldOf C.tr eq24) (lw_V q1884 q1886 qs112 q133 q1887) rfl hdX11_toldOf rfl rfl (Nat.le_of_ble_eq_true rfl) ⟨by decide, by decide⟩ dX11_overlap_100 rfl ?_
    cases h
    exact r_iret C hK dX11_overlap_103
  · have h := ie_ h c17
    refine r_iconst C dX11_overlap_68 ?_
    cases h
    exact r_iret C hK dX11_overlap_69
noncomputable def s_X11_overlap_b27 (a0 : Nat) (x1 : Int) (x2 : Int) (x3 : Int) (x4 : Int) (t0 : Int) (t1 : Nat) (μ : Me) : Option (Int × Me) :=
  (ck μ 9 t1).bind fun _ =>
  (s_X11_throwsIf t1 t0 1 μ).bind fun q5 =>
  (if w32 q5.1 = 0 then
  (ck q5.2 9 a0).bind fun _ =>
  (s_X11_degreeOf a0 x1 q5.2).bind fun q8 =>
  (ck q8.2 9 a0).bind fun _ =>
  (s_X11_degreeOf a0 x2 q8.2).bind fun q10 =>
  (s_J6_min q8.1 q10.1 q10.2).bind fun q12 =>
  (s_X11_in x3 0 q12.1 q12.2).bind fun q13 =>
  (if w32 q13.1 = 0 then
  s_X11_overlap_b61 a0 x1 x2 x3 x4 1 a0 q13.2
  else
  s_X11_overlap_b61 a0 x1 x2 x3 x4 0 a0 q13.2)
  else
  some (0, q5.2))
theorem w_X11_overlap_b27 {Z : Zt} {fin : Int × Me} {w : (Int × Me)} (C : CX Z yX11_overlap cX11_overlap (some .int) 6 5) {a0 : Nat} {x1 : Int} {x2 : Int} {x3 : Int} {x4 : Int} {t0 : Int} {t1 : Nat} {μ : Me} (h : s_X11_overlap_b27 a0 x1 x2 x3 x4 t0 t1 μ = some w) (hK : (fun r : Int × Me => r = fin) w) : WL Z (QN Z (some (vI fin.1)) fin.2) μ 27 [(0, vO a0), (1, vI x1), (2, vI x2), (3, vI x3), (4, vI x4)] [vI t0, vO t1] := by
  unfold s_X11_overlap_b27 at h
  refine r_iconst C dX11_overlap_27 ?_
  obtain ⟨u6, eu6, h⟩ := bs h
  obtain ⟨q5, eq5, h⟩ := bs h
  refine r_callV C (As := [vI t0, vI 1]) (b := t1) (rest := []) (st1 := [vI q5.1]) (v := some (vI q5.1)) (r := (RX11, TX11, 38)) (ci := 9) rfl eu6 (m_X11_throwsIf C.tr eq5) (lw_V q1500 q1502 qs49 q133 q1503) rfl hdX11_throwsIf rfl rfl (Nat.le_of_ble_eq_true rfl) ⟨by decide, by decide⟩ dX11_overlap_28 rfl ?_
  refine r_if_ne C dX11_overlap_31 (tgt := 68) (by decide) (fun c7 => ?_) (fun c7 => ?_)
  · have h := ie_ h c7
    refine r_iconst C dX11_overlap_68 ?_
    cases h
    exact r_iret C hK dX11_overlap_69
  · have h := it_ h c7
    refine r_aload_n C 0 dX11_overlap_34 rfl rfl ?_
    refine r_iload_n C 3 dX11_overlap_35 rfl rfl ?_
    refine r_iconst C dX11_overlap_36 ?_
    refine r_aload_n C 0 dX11_overlap_37 rfl rfl ?_
    refine r_iload_n C 1 dX11_overlap_38 rfl rfl ?_
    obtain ⟨u9, eu9, h⟩ := bs h
    obtain ⟨q8, eq8, h⟩ := bs h
    refine r_callV C (As := [vI x1]) (b := a0) (rest := [vI 0, vI x3, vO a0]) (st1 := [vI q8.1, vI 0, vI x3, vO a0]) (v := some (vI q8.1)) (r := (RX11, TX11, 38)) (ci := 9) rfl eu9 (m_X11_degreeOf C.tr eq8) (lw_V q1605 q1607 qs65 q133 q1608) rfl hdX11_degreeOf rfl rfl (Nat.le_of_ble_eq_true rfl) ⟨by decide, by decide⟩ dX11_overlap_39 rfl ?_
    refine r_aload_n C 0 dX11_overlap_42 rfl rfl ?_
    refine r_iload_n C 2 dX11_overlap_43 rfl rfl ?_
    obtain ⟨u11, eu11, h⟩ := bs h
    obtain ⟨q10, eq10, h⟩ := bs h
    refine r_callV C (As := [vI x2]) (b := a0) (rest := [vI q8.1, vI 0, vI x3, vO a0]) (st1 := [vI q10.1, vI q8.1, vI 0, vI x3, vO a0]) (v := some (vI q10.1)) (r := (RX11, TX11, 38)) (ci := 9) rfl eu11 (m_X11_degreeOf C.tr eq10) (lw_V q1605 q1607 qs65 q133 q1608) rfl hdX11_degreeOf rfl rfl (Nat.le_of_ble_eq_true rfl) ⟨by decide, by decide⟩ dX11_overlap_44 rfl ?_
    obtain ⟨q12, eq12, h⟩ := bs h
    refine r_callS C (As := [vI q8.1, vI q10.1]) (rest := [vI 0, vI x3, vO a0]) (st1 := [vI q12.1, vI 0, vI x3, vO a0]) (v := some (vI q12.1)) (m_J6_min C.tr eq12) (lw_S q1879 q927 q137 q928) hdJ6_min rfl rfl (Nat.le_of_ble_eq_true rfl) ⟨by decide, by decide⟩ dX11_overlap_47 rfl ?_
    obtain ⟨q13, eq13, h⟩ := bs h
    refine r_callS C (As := [vI x3, vI 0, vI q12.1]) (rest := [vO a0]) (st1 := [vI q13.1, vO a0]) (v := some (vI q13.1)) (m_X11_in C.tr eq13) (lw_S q1512 q1513 q133 q1514) hdX11_in rfl rfl (Nat.le_of_ble_eq_true rfl) ⟨by decide, by decide⟩ dX11_overlap_50 rfl ?_
    refine r_if_ne C dX11_overlap_53 (tgt := 60) (by decide) (fun c14 => ?_) (fun c14 => ?_)
    · have h := ie_ h c14
      refine r_iconst C dX11_overlap_60 ?_
      exact w_X11_overlap_b61 (fin := fin) C h hK
    · have h := it_ h c14
      refine r_iconst C dX11_overlap_56 ?_
      refine r_goto C dX11_overlap_57 (tgt := 61) (by decide) ?_
      exact w_X11_overlap_b61 (fin := fin) C h hK
noncomputable def s_X11_overlap_b22 (a0 : Nat) (x1 : Int) (x2 : Int) (x3 : Int) (x4 : Int) (t0 : Nat) (μ : Me) : Option (Int × Me) :=
  s_X11_overlap_b27 a0 x1 x2 x3 x4 1 t0 μ
theorem w_X11_overlap_b22 {Z : Zt} {fin : Int × Me} {w : (Int × Me)} (C : CX Z yX11_overlap cX11_overlap (some .int) 6 5) {a0 : Nat} {x1 : Int} {x2 : Int} {x3 : Int} {x4 : Int} {t0 : Nat} {μ : Me} (h : s_X11_overlap_b22 a0 x1 x2 x3 x4 t0 μ = some w) (hK : (fun r : Int × Me => r = fin) w) : WL Z (QN Z (some (vI fin.1)) fin.2) μ 22 [(0, vO a0), (1, vI x1), (2, vI x2), (3, vI x3), (4, vI x4)] [vO t0] := by
  unfold s_X11_overlap_b22 at h
  refine r_iconst C dX11_overlap_22 ?_
  refine r_goto C dX11_overlap_23 (tgt := 27) (by decide) ?_
  exact w_X11_overlap_b27 (fin := fin) C h hK
noncomputable def s_X11_overlap (a0 : Nat) (x1 : Int) (x2 : Int) (x3 : Int) (x4 : Int) (μ : Me) : Option (Int × Me) :=
  (pI μ 9 a0 0 0).bind fun m1 =>
  (ck m1 9 a0).bind fun _ =>
  (s_X11_noForm a0 x1 m1).bind fun q2 =>
  (if w32 q2.1 = 0 then
  (ck q2.2 9 a0).bind fun _ =>
  (s_X11_noForm a0 x2 q2.2).bind fun q26 =>
  (if w32 q26.1 = 0 then
  s_X11_overlap_b27 a0 x1 x2 x3 x4 0 a0 q26.2
  else
  s_X11_overlap_b22 a0 x1 x2 x3 x4 a0 q26.2)
  else
  s_X11_overlap_b22 a0 x1 x2 x3 x4 a0 q2.2)
theorem w_X11_overlap {Z : Zt} {fin : Int × Me} {w : Int × Me} (C : CX Z yX11_overlap cX11_overlap (some .int) 6 5) {a0 : Nat} {x1 : Int} {x2 : Int} {x3 : Int} {x4 : Int} {μ : Me} (h : s_X11_overlap a0 x1 x2 x3 x4 μ = some w) (hK : w = fin) : WL Z (QN Z (some (vI fin.1)) fin.2) μ 0 [(0, vO a0), (1, vI x1), (2, vI x2), (3, vI x3), (4, vI x4)] [] := by
  unfold s_X11_overlap at h
  refine r_aload_n C 0 dX11_overlap_0 rfl rfl ?_
  refine r_iconst C dX11_overlap_1 ?_
  obtain ⟨m1, em1, h⟩ := bs h
  refine r_putI C (c := 9) (r := (RX11, TX11, 38)) rfl 0 (by decide) rfl ⟨rfl, rfl⟩ rfl em1 q1313 dX11_overlap_2 ?_
  refine r_aload_n C 0 dX11_overlap_5 rfl rfl ?_
  refine r_aload_n C 0 dX11_overlap_6 rfl rfl ?_
  refine r_iload_n C 1 dX11_overlap_7 rfl rfl ?_
  obtain ⟨u3, eu3, h⟩ := bs h
  obtain ⟨q2, eq2, h⟩ := bs h
  refine r_callV C (As := [vI x1]) (b := a0) (rest := [vO a0]) (st1 := [vI q2.1, vO a0]) (v := some (vI q2.1)) (r := (RX11, TX11, 38)) (ci := 9) rfl eu3 (m_X11_noForm C.tr eq2) (lw_V q1601 q1603 qs64 q133 q1604) rfl hdX11_noForm rfl rfl (Nat.le_of_ble_eq_true rfl) ⟨by decide, by decide⟩ dX11_overlap_8 rfl ?_
  refine r_if_ne C dX11_overlap_11 (tgt := 22) (by decide) (fun c4 => ?_) (fun c4 => ?_)
  · have h := ie_ h c4
    exact w_X11_overlap_b22 (fin := fin) C h hK
  · have h := it_ h c4
    refine r_aload_n C 0 dX11_overlap_14 rfl rfl ?_
    refine r_iload_n C 2 dX11_overlap_15 rfl rfl ?_
    obtain ⟨u27, eu27, h⟩ := bs h
    obtain ⟨q26, eq26, h⟩ := bs h
    refine r_callV C (As := [vI x2]) (b := a0) (rest := [vO a0]) (st1 := [vI q26.1, vO a0]) (v := some (vI q26.1)) (r := (RX11, TX11, 38)) (ci := 9) rfl eu27 (m_X11_noForm C.tr eq26) (lw_V q1601 q1603 qs64 q133 q1604) rfl hdX11_noForm rfl rfl (Nat.le_of_ble_eq_true rfl) ⟨by decide, by decide⟩ dX11_overlap_16 rfl ?_
    refine r_if_eq C dX11_overlap_19 (tgt := 26) (by decide) (fun c28 => ?_) (fun c28 => ?_)
    · have h := it_ h c28
      refine r_iconst C dX11_overlap_26 ?_
      exact w_X11_overlap_b27 (fin := fin) C h hK
    · have h := ie_ h c28
      exact w_X11_overlap_b22 (fin := fin) C h hK
theorem hdX11_overlap : zhd yX11_overlap 4 := by decide +kernel
theorem m_X11_overlap {l : Launch} {D : va_G} {b0 : Nat} (hl : l.stackTraces = false) {a0 : Nat} {x1 : Int} {x2 : Int} {x3 : Int} {x4 : Int} {μ : Me} {w : Int × Me} (h : s_X11_overlap a0 x1 x2 x3 x4 μ = some w) : MN l D b0 yX11_overlap (ws_ yX11_overlap cX11_overlap 5 (some .int)) 6 [vO a0, vI x1, vI x2, vI x3, vI x4] μ (some (vI w.1)) w.2 :=
  MN.of hl (by decide +kernel) (Nat.le_of_ble_eq_true rfl) (fun Z C _ _ => w_X11_overlap C h rfl)
noncomputable def s_X11_isThousand (x0 : Int) (μ : Me) : Option (Int × Me) :=
  (s_X11_in x0 (-999) 999 μ).bind fun q1 =>
  (bz2 q1.1).bind fun _ =>
  some (q1.1, q1.2)
theorem w_X11_isThousand {Z : Zt} {fin : Int × Me} {w : Int × Me} (C : CX Z yX11_isThousand cX11_isThousand (some .boolean) 2 1) {x0 : Int} {μ : Me} (h : s_X11_isThousand x0 μ = some w) (hK : w = fin) : WL Z (QN Z (some (vI fin.1)) fin.2) μ 0 [(0, vI x0)] [] := by
  unfold s_X11_isThousand at h
  refine r_iload_n C 0 dX11_isThousand_0 rfl rfl ?_
  refine r_sipush C dX11_isThousand_1 (by decide) ?_
  refine r_sipush C dX11_isThousand_4 (by decide) ?_
  obtain ⟨q1, eq1, h⟩ := bs h
  refine r_callS C (As := [vI x0, vI (-999), vI 999]) (rest := []) (st1 := [vI q1.1]) (v := some (vI q1.1)) (m_X11_in C.tr eq1) (lw_S q1512 q1513 q133 q1514) hdX11_in rfl rfl (Nat.le_of_ble_eq_true rfl) ⟨by decide, by decide⟩ dX11_isThousand_7 rfl ?_
  obtain ⟨u2, eu2, h⟩ := bs h
  cases h
  exact r_zret C (bz2_ok eu2) hK dX11_isThousand_10
theorem hdX11_isThousand : zhd yX11_isThousand 1 := by decide +kernel
theorem m_X11_isThousand {l : Launch} {D : va_G} {b0 : Nat} (hl : l.stackTraces = false) {x0 : Int} {μ : Me} {w : Int × Me} (h : s_X11_isThousand x0 μ = some w) : MN l D b0 yX11_isThousand (ws_ yX11_isThousand cX11_isThousand 1 (some .boolean)) 2 [vI x0] μ (some (vI w.1)) w.2 :=
  MN.of hl (by decide +kernel) (Nat.le_of_ble_eq_true rfl) (fun Z C _ _ => w_X11_isThousand C h rfl)
noncomputable def s_X11_isWide (a0 : Nat) (μ : Me) : Option (Int × Me) :=
  (gJ μ 9 a0 31).bind fun v1 =>
  (gJ μ 9 a0 30).bind fun v2 =>
  (if w64 v2 < w64 v1 then
  some (1, μ)
  else
  (gJ μ 9 a0 31).bind fun v4 =>
  (gJ μ 9 a0 30).bind fun v5 =>
  (if w64 (-v5) < w64 v4 then
  some (0, μ)
  else
  some (1, μ)))
theorem w_X11_isWide {Z : Zt} {fin : Int × Me} {w : Int × Me} (C : CX Z yX11_isWide cX11_isWide (some .boolean) 1 1) {a0 : Nat} {μ : Me} (h : s_X11_isWide a0 μ = some w) (hK : w = fin) : WL Z (QN Z (some (vI fin.1)) fin.2) μ 0 [(0, vO a0)] [] := by
  unfold s_X11_isWide at h
  refine r_aload_n C 0 dX11_isWide_0 rfl rfl ?_
  obtain ⟨v1, ev1, h⟩ := bs h
  refine r_getJ C (c := 9) (r := (RX11, TX11, 38)) rfl 31 (by decide) rfl ev1 q1344 dX11_isWide_1 ?_
  refine r_aload_n C 0 dX11_isWide_4 rfl rfl ?_
  obtain ⟨v2, ev2, h⟩ := bs h
  refine r_getJ C (c := 9) (r := (RX11, TX11, 38)) rfl 30 (by decide) rfl ev2 q1343 dX11_isWide_5 ?_
  refine r_lcmp_gt C dX11_isWide_8 dX11_isWide_9 (tgt := 25) (by decide) (fun c3 => ?_) (fun c3 => ?_)
  · have h := it_ h c3
    refine r_iconst C dX11_isWide_25 ?_
    refine r_goto C dX11_isWide_26 (tgt := 30) (by decide) ?_
    cases h
    exact r_zret C (Or.inr rfl) hK dX11_isWide_30
  · have h := ie_ h c3
    refine r_aload_n C 0 dX11_isWide_12 rfl rfl ?_
    obtain ⟨v4, ev4, h⟩ := bs h
    refine r_getJ C (c := 9) (r := (RX11, TX11, 38)) rfl 31 (by decide) rfl ev4 q1344 dX11_isWide_13 ?_
    refine r_aload_n C 0 dX11_isWide_16 rfl rfl ?_
    obtain ⟨v5, ev5, h⟩ := bs h
    refine r_getJ C (c := 9) (r := (RX11, TX11, 38)) rfl 30 (by decide) rfl ev5 q1343 dX11_isWide_17 ?_
    refine r_lneg C dX11_isWide_20 ?_
    refine r_lcmp_gt C dX11_isWide_21 dX11_isWide_22 (tgt := 29) (by decide) (fun c6 => ?_) (fun c6 => ?_)
    · have h := it_ h c6
      refine r_iconst C dX11_isWide_29 ?_
      cases h
      exact r_zret C (Or.inl rfl) hK dX11_isWide_30
    · have h := ie_ h c6
      refine r_iconst C dX11_isWide_25 ?_
      refine r_goto C dX11_isWide_26 (tgt := 30) (by decide) ?_
      cases h
      exact r_zret C (Or.inr rfl) hK dX11_isWide_30
theorem hdX11_isWide : zhd yX11_isWide 0 := by decide +kernel
theorem m_X11_isWide {l : Launch} {D : va_G} {b0 : Nat} (hl : l.stackTraces = false) {a0 : Nat} {μ : Me} {w : Int × Me} (h : s_X11_isWide a0 μ = some w) : MN l D b0 yX11_isWide (ws_ yX11_isWide cX11_isWide 1 (some .boolean)) 1 [vO a0] μ (some (vI w.1)) w.2 :=
  MN.of hl (by decide +kernel) (Nat.le_of_ble_eq_true rfl) (fun Z C _ _ => w_X11_isWide C h rfl)
noncomputable def s_X11_isTurned (a0 : Nat) (μ : Me) : Option (Int × Me) :=
  (gJ μ 9 a0 30).bind fun v1 =>
  (gJ μ 9 a0 32).bind fun v2 =>
  (if w64 v2 < w64 v1 then
  some (1, μ)
  else
  (gJ μ 9 a0 30).bind fun v4 =>
  (gJ μ 9 a0 32).bind fun v5 =>
  (if w64 v4 = w64 v5 then
  (gJ μ 9 a0 31).bind fun v7 =>
  (if w64 0 ≤ w64 v7 then
  some (0, μ)
  else
  some (1, μ))
  else
  some (0, μ)))
theorem w_X11_isTurned {Z : Zt} {fin : Int × Me} {w : Int × Me} (C : CX Z yX11_isTurned cX11_isTurned (some .boolean) 1 1) {a0 : Nat} {μ : Me} (h : s_X11_isTurned a0 μ = some w) (hK : w = fin) : WL Z (QN Z (some (vI fin.1)) fin.2) μ 0 [(0, vO a0)] [] := by
  unfold s_X11_isTurned at h
  refine r_aload_n C 0 dX11_isTurned_0 rfl rfl ?_
  obtain ⟨v1, ev1, h⟩ := bs h
  refine r_getJ C (c := 9) (r := (RX11, TX11, 38)) rfl 30 (by decide) rfl ev1 q1343 dX11_isTurned_1 ?_
  refine r_aload_n C 0 dX11_isTurned_4 rfl rfl ?_
  obtain ⟨v2, ev2, h⟩ := bs h
  refine r_getJ C (c := 9) (r := (RX11, TX11, 38)) rfl 32 (by decide) rfl ev2 q1345 dX11_isTurned_5 ?_
  refine r_lcmp_gt C dX11_isTurned_8 dX11_isTurned_9 (tgt := 33) (by decide) (fun c3 => ?_) (fun c3 => ?_)
  · have h := it_ h c3
    refine r_iconst C dX11_isTurned_33 ?_
    refine r_goto C dX11_isTurned_34 (tgt := 38) (by decide) ?_
    cases h
    exact r_zret C (Or.inr rfl) hK dX11_isTurned_38
  · have h := ie_ h c3
    refine r_aload_n C 0 dX11_isTurned_12 rfl rfl ?_
    obtain ⟨v4, ev4, h⟩ := bs h
    refine r_getJ C (c := 9) (r := (RX11, TX11, 38)) rfl 30 (by decide) rfl ev4 q1343 dX11_isTurned_13 ?_
    refine r_aload_n C 0 dX11_isTurned_16 rfl rfl ?_
    obtain ⟨v5, ev5, h⟩ := bs h
    refine r_getJ C (c := 9) (r := (RX11, TX11, 38)) rfl 32 (by decide) rfl ev5 q1345 dX11_isTurned_17 ?_
    refine r_lcmp_ne C dX11_isTurned_20 dX11_isTurned_21 (tgt := 37) (by decide) (fun c6 => ?_) (fun c6 => ?_)
    · have h := ie_ h c6
      refine r_iconst C dX11_isTurned_37 ?_
      cases h
      exact r_zret C (Or.inl rfl) hK dX11_isTurned_38
    · have h := it_ h c6
      refine r_aload_n C 0 dX11_isTurned_24 rfl rfl ?_
      obtain ⟨v7, ev7, h⟩ := bs h
      refine r_getJ C (c := 9) (r := (RX11, TX11, 38)) rfl 31 (by decide) rfl ev7 q1344 dX11_isTurned_25 ?_
      refine r_lconst (v := 0) C dX11_isTurned_28 (by decide) ?_
      refine r_lcmp_ge C dX11_isTurned_29 dX11_isTurned_30 (tgt := 37) (by decide) (fun c8 => ?_) (fun c8 => ?_)
      · have h := it_ h c8
        refine r_iconst C dX11_isTurned_37 ?_
        cases h
        exact r_zret C (Or.inl rfl) hK dX11_isTurned_38
      · have h := ie_ h c8
        refine r_iconst C dX11_isTurned_33 ?_
        refine r_goto C dX11_isTurned_34 (tgt := 38) (by decide) ?_
        cases h
        exact r_zret C (Or.inr rfl) hK dX11_isTurned_38
theorem hdX11_isTurned : zhd yX11_isTurned 0 := by decide +kernel
theorem m_X11_isTurned {l : Launch} {D : va_G} {b0 : Nat} (hl : l.stackTraces = false) {a0 : Nat} {μ : Me} {w : Int × Me} (h : s_X11_isTurned a0 μ = some w) : MN l D b0 yX11_isTurned (ws_ yX11_isTurned cX11_isTurned 1 (some .boolean)) 1 [vO a0] μ (some (vI w.1)) w.2 :=
  MN.of hl (by decide +kernel) (Nat.le_of_ble_eq_true rfl) (fun Z C _ _ => w_X11_isTurned C h rfl)
noncomputable def s_X11_joinsWhole (a0 : Nat) (y1 : Int) (y3 : Int) (y5 : Int) (y7 : Int) (μ : Me) : Option (Me) :=
  (gR μ 9 a0 34).bind fun v1 =>
  (aJ μ 103 v1 0).bind fun v2 =>
  (gR μ 9 a0 34).bind fun v3 =>
  (aJ μ 103 v3 1).bind fun v4 =>
  (gR μ 9 a0 34).bind fun v5 =>
  (aJ μ 103 v5 2).bind fun v6 =>
  (gR μ 9 a0 34).bind fun v7 =>
  (aJ μ 103 v7 3).bind fun v8 =>
  (gR μ 9 a0 34).bind fun v9 =>
  (uJ μ v9 0 ((v2 * y1) + (v4 * y5))).bind fun m10 =>
  (gR m10 9 a0 34).bind fun v11 =>
  (uJ m10 v11 1 ((v2 * y3) + (v4 * y7))).bind fun m12 =>
  (gR m12 9 a0 34).bind fun v13 =>
  (uJ m12 v13 2 ((v6 * y1) + (v8 * y5))).bind fun m14 =>
  (gR m14 9 a0 34).bind fun v15 =>
  (uJ m14 v15 3 ((v6 * y3) + (v8 * y7))).bind fun m16 =>
  (gJ m16 9 a0 33).bind fun v17 =>
  (pJ m16 9 a0 33 (v17 + 1)).bind fun m18 =>
  some m18
theorem w_X11_joinsWhole {Z : Zt} {fin : Me} {w : Me} (C : CX Z yX11_joinsWhole cX11_joinsWhole none 1 17) {a0 : Nat} {y1 : Int} {y3 : Int} {y5 : Int} {y7 : Int} {μ : Me} (h : s_X11_joinsWhole a0 y1 y3 y5 y7 μ = some w) (hK : w = fin) : WL Z (QN Z none fin) μ 0 [(0, vO a0), (1, vJ y1), (3, vJ y3), (5, vJ y5), (7, vJ y7)] [] := by
  unfold s_X11_joinsWhole at h
  refine r_aload_n C 0 dX11_joinsWhole_0 rfl rfl ?_
  obtain ⟨v1, ev1, h⟩ := bs h
  refine r_getR C (c := 9) (r := (RX11, TX11, 38)) rfl 34 (by decide) rfl ev1 q1347 dX11_joinsWhole_1 ?_
  refine r_iconst C dX11_joinsWhole_4 ?_
  obtain ⟨v2, ev2, h⟩ := bs h
  refine r_lald C ev2 dX11_joinsWhole_5 ?_
  refine r_lstore C [(9, vJ v2), (0, vO a0), (1, vJ y1), (3, vJ y3), (5, vJ y5), (7, vJ y7)] dX11_joinsWhole_6 (by decide) rfl ?_
  refine r_aload_n C 1 dX11_joinsWhole_8 rfl rfl ?_
  obtain ⟨v3, ev3, h⟩ := bs h
  refine r_getR C (c := 9) (r := (RX11, TX11, 38)) rfl 34 (by decide) rfl ev3 q1347 dX11_joinsWhole_9 ?_
  refine r_iconst C dX11_joinsWhole_12 ?_
  obtain ⟨v4, ev4, h⟩ := bs h
  refine r_lald C ev4 dX11_joinsWhole_13 ?_
  refine r_lstore C [(11, vJ v4), (9, vJ v2), (0, vO a0), (1, vJ y1), (3, vJ y3), (5, vJ y5), (7, vJ y7)] dX11_joinsWhole_14 (by decide) rfl ?_
  refine r_aload_n C 2 dX11_joinsWhole_16 rfl rfl ?_
  obtain ⟨v5, ev5, h⟩ := bs h
  refine r_getR C (c := 9) (r := (RX11, TX11, 38)) rfl 34 (by decide) rfl ev5 q1347 dX11_joinsWhole_17 ?_
  refine r_iconst C dX11_joinsWhole_20 ?_
  obtain ⟨v6, ev6, h⟩ := bs h
  refine r_lald C ev6 dX11_joinsWhole_21 ?_
  refine r_lstore C [(13, vJ v6), (11, vJ v4), (9, vJ v2), (0, vO a0), (1, vJ y1), (3, vJ y3), (5, vJ y5), (7, vJ y7)] dX11_joinsWhole_22 (by decide) rfl ?_
  refine r_aload_n C 3 dX11_joinsWhole_24 rfl rfl ?_
  obtain ⟨v7, ev7, h⟩ := bs h
  refine r_getR C (c := 9) (r := (RX11, TX11, 38)) rfl 34 (by decide) rfl ev7 q1347 dX11_joinsWhole_25 ?_
  refine r_iconst C dX11_joinsWhole_28 ?_
  obtain ⟨v8, ev8, h⟩ := bs h
  refine r_lald C ev8 dX11_joinsWhole_29 ?_
  refine r_lstore C [(15, vJ v8), (13, vJ v6), (11, vJ v4), (9, vJ v2), (0, vO a0), (1, vJ y1), (3, vJ y3), (5, vJ y5), (7, vJ y7)] dX11_joinsWhole_30 (by decide) rfl ?_
  refine r_aload_n C 4 dX11_joinsWhole_32 rfl rfl ?_
  obtain ⟨v9, ev9, h⟩ := bs h
  refine r_getR C (c := 9) (r := (RX11, TX11, 38)) rfl 34 (by decide) rfl ev9 q1347 dX11_joinsWhole_33 ?_
  refine r_iconst C dX11_joinsWhole_36 ?_
  refine r_lload C 3 dX11_joinsWhole_37 rfl ?_
  refine r_lload_n C 5 dX11_joinsWhole_39 rfl rfl ?_
  refine r_lmul C dX11_joinsWhole_40 ?_
  refine r_lload C 2 dX11_joinsWhole_41 rfl ?_
  refine r_lload C 7 dX11_joinsWhole_43 rfl ?_
  refine r_lmul C dX11_joinsWhole_45 ?_
  refine r_ladd C dX11_joinsWhole_46 ?_
  obtain ⟨m10, em10, h⟩ := bs h
  refine r_last C em10 dX11_joinsWhole_47 ?_
  refine r_aload_n C 4 dX11_joinsWhole_48 rfl rfl ?_
  obtain ⟨v11, ev11, h⟩ := bs h
  refine r_getR C (c := 9) (r := (RX11, TX11, 38)) rfl 34 (by decide) rfl ev11 q1347 dX11_joinsWhole_49 ?_
  refine r_iconst C dX11_joinsWhole_52 ?_
  refine r_lload C 3 dX11_joinsWhole_53 rfl ?_
  refine r_lload_n C 6 dX11_joinsWhole_55 rfl rfl ?_
  refine r_lmul C dX11_joinsWhole_56 ?_
  refine r_lload C 2 dX11_joinsWhole_57 rfl ?_
  refine r_lload C 8 dX11_joinsWhole_59 rfl ?_
  refine r_lmul C dX11_joinsWhole_61 ?_
  refine r_ladd C dX11_joinsWhole_62 ?_
  obtain ⟨m12, em12, h⟩ := bs h
  refine r_last C em12 dX11_joinsWhole_63 ?_
  refine r_aload_n C 4 dX11_joinsWhole_64 rfl rfl ?_
  obtain ⟨v13, ev13, h⟩ := bs h
  refine r_getR C (c := 9) (r := (RX11, TX11, 38)) rfl 34 (by decide) rfl ev13 q1347 dX11_joinsWhole_65 ?_
  refine r_iconst C dX11_joinsWhole_68 ?_
  refine r_lload C 1 dX11_joinsWhole_69 rfl ?_
  refine r_lload_n C 5 dX11_joinsWhole_71 rfl rfl ?_
  refine r_lmul C dX11_joinsWhole_72 ?_
  refine r_lload C 0 dX11_joinsWhole_73 rfl ?_
  refine r_lload C 7 dX11_joinsWhole_75 rfl ?_
  refine r_lmul C dX11_joinsWhole_77 ?_
  refine r_ladd C dX11_joinsWhole_78 ?_
  obtain ⟨m14, em14, h⟩ := bs h
  refine r_last C em14 dX11_joinsWhole_79 ?_
  refine r_aload_n C 4 dX11_joinsWhole_80 rfl rfl ?_
  obtain ⟨v15, ev15, h⟩ := bs h
  refine r_getR C (c := 9) (r := (RX11, TX11, 38)) rfl 34 (by decide) rfl ev15 q1347 dX11_joinsWhole_81 ?_
  refine r_iconst C dX11_joinsWhole_84 ?_
  refine r_lload C 1 dX11_joinsWhole_85 rfl ?_
  refine r_lload_n C 6 dX11_joinsWhole_87 rfl rfl ?_
  refine r_lmul C dX11_joinsWhole_88 ?_
  refine r_lload C 0 dX11_joinsWhole_89 rfl ?_
  refine r_lload C 8 dX11_joinsWhole_91 rfl ?_
  refine r_lmul C dX11_joinsWhole_93 ?_
  refine r_ladd C dX11_joinsWhole_94 ?_
  obtain ⟨m16, em16, h⟩ := bs h
  refine r_last C em16 dX11_joinsWhole_95 ?_
  refine r_aload_n C 4 dX11_joinsWhole_96 rfl rfl ?_
  refine r_dup C dX11_joinsWhole_97 rfl ?_
  obtain ⟨v17, ev17, h⟩ := bs h
  refine r_getJ C (c := 9) (r := (RX11, TX11, 38)) rfl 33 (by decide) rfl ev17 q1346 dX11_joinsWhole_98 ?_
  refine r_lconst (v := 1) C dX11_joinsWhole_101 (by decide) ?_
  refine r_ladd C dX11_joinsWhole_102 ?_
  obtain ⟨m18, em18, h⟩ := bs h
  refine r_putJ C (c := 9) (r := (RX11, TX11, 38)) rfl 33 (by decide) rfl rfl em18 q1346 dX11_joinsWhole_103 ?_
  cases h
  exact r_vret C hK dX11_joinsWhole_106
theorem hdX11_joinsWhole : zhd yX11_joinsWhole 4 := by decide +kernel
theorem m_X11_joinsWhole {l : Launch} {D : va_G} {b0 : Nat} (hl : l.stackTraces = false) {a0 : Nat} {y1 : Int} {y3 : Int} {y5 : Int} {y7 : Int} {μ : Me} {w : Me} (h : s_X11_joinsWhole a0 y1 y3 y5 y7 μ = some w) : MN l D b0 yX11_joinsWhole (ws_ yX11_joinsWhole cX11_joinsWhole 17 none) 1 [vO a0, vJ y1, vJ y3, vJ y5, vJ y7] μ none w :=
  MN.of hl (by decide +kernel) (Nat.le_of_ble_eq_true rfl) (fun Z C _ _ => w_X11_joinsWhole C h rfl)
noncomputable def s_X11_reduces_b126 (a0 : Nat)  (μ : Me) : Option ((Me) ⊕ (Me)) :=
  (ck μ 9 a0).bind fun _ =>
  (s_X11_isTurned a0  μ).bind fun q16 =>
  (if w32 q16.1 = 0 then
  some (.inl q16.2)
  else
  (gJ q16.2 9 a0 30).bind fun v19 =>
  (gJ q16.2 9 a0 32).bind fun v20 =>
  (pJ q16.2 9 a0 30 v20).bind fun m21 =>
  (pJ m21 9 a0 32 v19).bind fun m22 =>
  (gJ m22 9 a0 31).bind fun v23 =>
  (pJ m22 9 a0 31 (-v23)).bind fun m24 =>
  (ck m24 9 a0).bind fun _ =>
  (s_X11_joinsWhole a0 0 (-1) 1 0 m24).bind fun q25 =>
  some (.inl q25))
theorem w_X11_reduces_b126 {Z : Zt} {fin : Me} {w : ((Me) ⊕ (Me))} (C : CX Z yX11_reduces cX11_reduces none 2 3) {a0 : Nat}  {μ : Me} (h : s_X11_reduces_b126 a0 μ = some w) (hK : (Sum.elim (fun s : Me => WL Z (QN Z none fin) s 33 [(0, vO a0)] []) (fun r : Me => r = fin)) w) : WL Z (QN Z none fin) μ 126 [(0, vO a0)] [] := by
  unfold s_X11_reduces_b126 at h
  refine r_aload_n C 0 dX11_reduces_126 rfl rfl ?_
  obtain ⟨u17, eu17, h⟩ := bs h
  obtain ⟨q16, eq16, h⟩ := bs h
  refine r_callV C (As := []) (b := a0) (rest := []) (st1 := [vI q16.1]) (v := some (vI q16.1)) (r := (RX11, TX11, 38)) (ci := 9) rfl eu17 (m_X11_isTurned C.tr eq16) (lw_V q1920 q1922 qs116 q133 q1923) rfl hdX11_isTurned rfl rfl (Nat.le_of_ble_eq_true rfl) ⟨by decide, by decide⟩ dX11_reduces_127 rfl ?_
  refine r_if_eq C dX11_reduces_130 (tgt := 33) (by decide) (fun c18 => ?_) (fun c18 => ?_)
  · have h := it_ h c18
    cases h
    exact hK
  · have h := ie_ h c18
    refine r_aload_n C 0 dX11_reduces_133 rfl rfl ?_
    obtain ⟨v19, ev19, h⟩ := bs h
    refine r_getJ C (c := 9) (r := (RX11, TX11, 38)) rfl 30 (by decide) rfl ev19 q1343 dX11_reduces_134 ?_
    refine r_lstore_n C [(1, vJ v19), (0, vO a0)] dX11_reduces_137 rfl (by decide) rfl ?_
    refine r_aload_n C 1 dX11_reduces_138 rfl rfl ?_
    refine r_aload_n C 1 dX11_reduces_139 rfl rfl ?_
    obtain ⟨v20, ev20, h⟩ := bs h
    refine r_getJ C (c := 9) (r := (RX11, TX11, 38)) rfl 32 (by decide) rfl ev20 q1345 dX11_reduces_140 ?_
    obtain ⟨m21, em21, h⟩ := bs h
    refine r_putJ C (c := 9) (r := (RX11, TX11, 38)) rfl 30 (by decide) rfl rfl em21 q1343 dX11_reduces_143 ?_
    refine r_aload_n C 1 dX11_reduces_146 rfl rfl ?_
    refine r_lload_n C 0 dX11_reduces_147 rfl rfl ?_
    obtain ⟨m22, em22, h⟩ := bs h
    refine r_putJ C (c := 9) (r := (RX11, TX11, 38)) rfl 32 (by decide) rfl rfl em22 q1345 dX11_reduces_148 ?_
    refine r_aload_n C 1 dX11_reduces_151 rfl rfl ?_
    refine r_aload_n C 1 dX11_reduces_152 rfl rfl ?_
    obtain ⟨v23, ev23, h⟩ := bs h
    refine r_getJ C (c := 9) (r := (RX11, TX11, 38)) rfl 31 (by decide) rfl ev23 q1344 dX11_reduces_153 ?_
    refine r_lneg C dX11_reduces_156 ?_
    obtain ⟨m24, em24, h⟩ := bs h
    refine r_putJ C (c := 9) (r := (RX11, TX11, 38)) rfl 31 (by decide) rfl rfl em24 q1344 dX11_reduces_157 ?_
    refine r_aload_n C 1 dX11_reduces_160 rfl rfl ?_
    refine r_lconst (v := 0) C dX11_reduces_161 (by decide) ?_
    refine r_ldc2 (n := (-1)) C q1930 dX11_reduces_162 (by decide) ?_
    refine r_lconst (v := 1) C dX11_reduces_165 (by decide) ?_
    refine r_lconst (v := 0) C dX11_reduces_166 (by decide) ?_
    obtain ⟨u26, eu26, h⟩ := bs h
    obtain ⟨q25, eq25, h⟩ := bs h
    refine r_callV C (As := [vJ 0, vJ (-1), vJ 1, vJ 0]) (b := a0) (rest := []) (st1 := []) (v := none) (r := (RX11, TX11, 38)) (ci := 9) rfl eu26 (m_X11_joinsWhole C.tr eq25) (lw_V q1926 q1928 qs117 q133 q1929) rfl hdX11_joinsWhole rfl rfl (Nat.le_of_ble_eq_true rfl) ⟨by decide, by decide⟩ dX11_reduces_167 rfl ?_
    refine r_goto C dX11_reduces_170 (tgt := 33) (by decide) ?_
    cases h
    refine r_sub [1] rfl ?_
    exact hK
noncomputable def s_X11_reduces_b47 (a0 : Nat)  (μ : Me) : Option ((Me) ⊕ (Me)) :=
  (ck μ 9 a0).bind fun _ =>
  (s_X11_isWide a0  μ).bind fun q13 =>
  (if w32 q13.1 = 0 then
  s_X11_reduces_b126 a0 q13.2
  else
  (gJ q13.2 9 a0 30).bind fun v27 =>
  (gJ q13.2 9 a0 31).bind fun v28 =>
  (gJ q13.2 9 a0 30).bind fun v29 =>
  (s_J6_floorDiv (v27 - v28) (2 * v29) q13.2).bind fun q30 =>
  (gJ q30.2 9 a0 30).bind fun v31 =>
  (gJ q30.2 9 a0 31).bind fun v32 =>
  (gJ q30.2 9 a0 32).bind fun v33 =>
  (pJ q30.2 9 a0 32 ((((v31 * q30.1) * q30.1) + (v32 * q30.1)) + v33)).bind fun m34 =>
  (gJ m34 9 a0 31).bind fun v35 =>
  (gJ m34 9 a0 30).bind fun v36 =>
  (pJ m34 9 a0 31 (v35 + ((2 * v36) * q30.1))).bind fun m37 =>
  (ck m37 9 a0).bind fun _ =>
  (s_X11_joinsWhole a0 1 q30.1 0 1 m37).bind fun q38 =>
  s_X11_reduces_b126 a0 q38)
theorem w_X11_reduces_b47 {Z : Zt} {fin : Me} {w : ((Me) ⊕ (Me))} (C : CX Z yX11_reduces cX11_reduces none 2 3) {a0 : Nat}  {μ : Me} (h : s_X11_reduces_b47 a0 μ = some w) (hK : (Sum.elim (fun s : Me => WL Z (QN Z none fin) s 33 [(0, vO a0)] []) (fun r : Me => r = fin)) w) : WL Z (QN Z none fin) μ 47 [(0, vO a0)] [] := by
  unfold s_X11_reduces_b47 at h
  refine r_aload_n C 0 dX11_reduces_47 rfl rfl ?_
  obtain ⟨u14, eu14, h⟩ := bs h
  obtain ⟨q13, eq13, h⟩ := bs h
  refine r_callV C (As := []) (b := a0) (rest := []) (st1 := [vI q13.1]) (v := some (vI q13.1)) (r := (RX11, TX11, 38)) (ci := 9) rfl eu14 (m_X11_isWide C.tr eq13) (lw_V q1916 q1918 qs115 q133 q1919) rfl hdX11_isWide rfl rfl (Nat.le_of_ble_eq_true rfl) ⟨by decide, by decide⟩ dX11_reduces_48 rfl ?_
  refine r_if_eq C dX11_reduces_51 (tgt := 126) (by decide) (fun c15 => ?_) (fun c15 => ?_)
  · have h := it_ h c15
    exact w_X11_reduces_b126 (fin := fin) C h hK
  · have h := ie_ h c15
    refine r_aload_n C 0 dX11_reduces_54 rfl rfl ?_
    obtain ⟨v27, ev27, h⟩ := bs h
    refine r_getJ C (c := 9) (r := (RX11, TX11, 38)) rfl 30 (by decide) rfl ev27 q1343 dX11_reduces_55 ?_
    refine r_aload_n C 0 dX11_reduces_58 rfl rfl ?_
    obtain ⟨v28, ev28, h⟩ := bs h
    refine r_getJ C (c := 9) (r := (RX11, TX11, 38)) rfl 31 (by decide) rfl ev28 q1344 dX11_reduces_59 ?_
    refine r_lsub C dX11_reduces_62 ?_
    refine r_ldc2 (n := 2) C q1924 dX11_reduces_63 (by decide) ?_
    refine r_aload_n C 0 dX11_reduces_66 rfl rfl ?_
    obtain ⟨v29, ev29, h⟩ := bs h
    refine r_getJ C (c := 9) (r := (RX11, TX11, 38)) rfl 30 (by decide) rfl ev29 q1343 dX11_reduces_67 ?_
    refine r_lmul C dX11_reduces_70 ?_
    obtain ⟨q30, eq30, h⟩ := bs h
    refine r_callS C (As := [vJ (v27 - v28), vJ (2 * v29)]) (rest := []) (st1 := [vJ q30.1]) (v := some (vJ q30.1)) (m_J6_floorDiv C.tr eq30) (lw_S q1925 q1248 q137 q1249) hdJ6_floorDiv rfl rfl (Nat.le_of_ble_eq_true rfl) ⟨by decide, by decide⟩ dX11_reduces_71 rfl ?_
    refine r_lstore_n C [(1, vJ q30.1), (0, vO a0)] dX11_reduces_74 rfl (by decide) rfl ?_
    refine r_aload_n C 1 dX11_reduces_75 rfl rfl ?_
    refine r_aload_n C 1 dX11_reduces_76 rfl rfl ?_
    obtain ⟨v31, ev31, h⟩ := bs h
    refine r_getJ C (c := 9) (r := (RX11, TX11, 38)) rfl 30 (by decide) rfl ev31 q1343 dX11_reduces_77 ?_
    refine r_lload_n C 0 dX11_reduces_80 rfl rfl ?_
    refine r_lmul C dX11_reduces_81 ?_
    refine r_lload_n C 0 dX11_reduces_82 rfl rfl ?_
    refine r_lmul C dX11_reduces_83 ?_
    refine r_aload_n C 1 dX11_reduces_84 rfl rfl ?_
    obtain ⟨v32, ev32, h⟩ := bs h
    refine r_getJ C (c := 9) (r := (RX11, TX11, 38)) rfl 31 (by decide) rfl ev32 q1344 dX11_reduces_85 ?_
    refine r_lload_n C 0 dX11_reduces_88 rfl rfl ?_
    refine r_lmul C dX11_reduces_89 ?_
    refine r_ladd C dX11_reduces_90 ?_
    refine r_aload_n C 1 dX11_reduces_91 rfl rfl ?_
    obtain ⟨v33, ev33, h⟩ := bs h
    refine r_getJ C (c := 9) (r := (RX11, TX11, 38)) rfl 32 (by decide) rfl ev33 q1345 dX11_reduces_92 ?_
    refine r_ladd C dX11_reduces_95 ?_
    obtain ⟨m34, em34, h⟩ := bs h
    refine r_putJ C (c := 9) (r := (RX11, TX11, 38)) rfl 32 (by decide) rfl rfl em34 q1345 dX11_reduces_96 ?_
    refine r_aload_n C 1 dX11_reduces_99 rfl rfl ?_
    refine r_dup C dX11_reduces_100 rfl ?_
    obtain ⟨v35, ev35, h⟩ := bs h
    refine r_getJ C (c := 9) (r := (RX11, TX11, 38)) rfl 31 (by decide) rfl ev35 q1344 dX11_reduces_101 ?_
    refine r_ldc2 (n := 2) C q1924 dX11_reduces_104 (by decide) ?_
    refine r_aload_n C 1 dX11_reduces_107 rfl rfl ?_
    obtain ⟨v36, ev36, h⟩ := bs h
    refine r_getJ C (c := 9) (r := (RX11, TX11, 38)) rfl 30 (by decide) rfl ev36 q1343 dX11_reduces_108 ?_
    refine r_lmul C dX11_reduces_111 ?_
    refine r_lload_n C 0 dX11_reduces_112 rfl rfl ?_
    refine r_lmul C dX11_reduces_113 ?_
    refine r_ladd C dX11_reduces_114 ?_
    obtain ⟨m37, em37, h⟩ := bs h
    refine r_putJ C (c := 9) (r := (RX11, TX11, 38)) rfl 31 (by decide) rfl rfl em37 q1344 dX11_reduces_115 ?_
    refine r_aload_n C 1 dX11_reduces_118 rfl rfl ?_
    refine r_lconst (v := 1) C dX11_reduces_119 (by decide) ?_
    refine r_lload_n C 0 dX11_reduces_120 rfl rfl ?_
    refine r_lconst (v := 0) C dX11_reduces_121 (by decide) ?_
    refine r_lconst (v := 1) C dX11_reduces_122 (by decide) ?_
    obtain ⟨u39, eu39, h⟩ := bs h
    obtain ⟨q38, eq38, h⟩ := bs h
    refine r_callV C (As := [vJ 1, vJ q30.1, vJ 0, vJ 1]) (b := a0) (rest := []) (st1 := []) (v := none) (r := (RX11, TX11, 38)) (ci := 9) rfl eu39 (m_X11_joinsWhole C.tr eq38) (lw_V q1926 q1928 qs117 q133 q1929) rfl hdX11_joinsWhole rfl rfl (Nat.le_of_ble_eq_true rfl) ⟨by decide, by decide⟩ dX11_reduces_123 rfl ?_
    refine r_sub [1] rfl ?_
    exact w_X11_reduces_b126 (fin := fin) C h hK
noncomputable def s_X11_reduces_l33_st (a0 : Nat) (μ : Me) : Option ((Me) ⊕ (Me)) :=
  (ck μ 9 a0).bind fun _ =>
  (s_X11_isWide a0  μ).bind fun q10 =>
  (if w32 q10.1 = 0 then
  (ck q10.2 9 a0).bind fun _ =>
  (s_X11_isTurned a0  q10.2).bind fun q40 =>
  (if w32 q40.1 = 0 then
  some (.inr q40.2)
  else
  s_X11_reduces_b47 a0 q40.2)
  else
  s_X11_reduces_b47 a0 q10.2)
theorem w_X11_reduces_l33_st {Z : Zt} {fin : Me} {w : ((Me) ⊕ (Me))} (C : CX Z yX11_reduces cX11_reduces none 2 3) {a0 : Nat} {μ : Me} (h : s_X11_reduces_l33_st a0 μ = some w) (hK : (Sum.elim (fun s : Me => WL Z (QN Z none fin) s 33 [(0, vO a0)] []) (fun r : Me => r = fin)) w) : WL Z (QN Z none fin) μ 33 [(0, vO a0)] [] := by
  unfold s_X11_reduces_l33_st at h
  refine r_aload_n C 0 dX11_reduces_33 rfl rfl ?_
  obtain ⟨u11, eu11, h⟩ := bs h
  obtain ⟨q10, eq10, h⟩ := bs h
  refine r_callV C (As := []) (b := a0) (rest := []) (st1 := [vI q10.1]) (v := some (vI q10.1)) (r := (RX11, TX11, 38)) (ci := 9) rfl eu11 (m_X11_isWide C.tr eq10) (lw_V q1916 q1918 qs115 q133 q1919) rfl hdX11_isWide rfl rfl (Nat.le_of_ble_eq_true rfl) ⟨by decide, by decide⟩ dX11_reduces_34 rfl ?_
  refine r_if_ne C dX11_reduces_37 (tgt := 47) (by decide) (fun c12 => ?_) (fun c12 => ?_)
  · have h := ie_ h c12
    exact w_X11_reduces_b47 (fin := fin) C h hK
  · have h := it_ h c12
    refine r_aload_n C 0 dX11_reduces_40 rfl rfl ?_
    obtain ⟨u41, eu41, h⟩ := bs h
    obtain ⟨q40, eq40, h⟩ := bs h
    refine r_callV C (As := []) (b := a0) (rest := []) (st1 := [vI q40.1]) (v := some (vI q40.1)) (r := (RX11, TX11, 38)) (ci := 9) rfl eu41 (m_X11_isTurned C.tr eq40) (lw_V q1920 q1922 qs116 q133 q1923) rfl hdX11_isTurned rfl rfl (Nat.le_of_ble_eq_true rfl) ⟨by decide, by decide⟩ dX11_reduces_41 rfl ?_
    refine r_if_eq C dX11_reduces_44 (tgt := 173) (by decide) (fun c42 => ?_) (fun c42 => ?_)
    · have h := it_ h c42
      cases h
      exact r_vret C hK dX11_reduces_173
    · have h := ie_ h c42
      exact w_X11_reduces_b47 (fin := fin) C h hK
noncomputable def s_X11_reduces_l33 (a0 : Nat) (μ : Me) : Option (Me) :=
  whileO (fun s : Me => s_X11_reduces_l33_st a0 s) μ
theorem e_X11_reduces_l33 (a0 : Nat) (μ : Me) : s_X11_reduces_l33 a0 μ = (s_X11_reduces_l33_st a0 μ).bind fun x => x.elim (fun s : Me => s_X11_reduces_l33 a0 s) some := whileO_eq _ _
theorem w_X11_reduces_l33 {Z : Zt} {fin : Me} {w : (Me)} (C : CX Z yX11_reduces cX11_reduces none 2 3) {a0 : Nat} {μ : Me} (h : s_X11_reduces_l33 a0 μ = some w) (hK : (fun r : Me => r = fin) w) : WL Z (QN Z none fin) μ 33 [(0, vO a0)] [] := by
  refine whileO_walk (w := w) (fun s : Me => WL Z (QN Z none fin) s 33 [(0, vO a0)] []) (fun s v h2 hi hr => ?_) μ h
  refine w_X11_reduces_l33_st (fin := fin) C h2 ?_
  cases v with
  | inl s2 => exact hi s2 rfl
  | inr r => have e := hr r rfl; subst e; exact hK
noncomputable def s_X11_reduces (a0 : Nat) (μ : Me) : Option (Me) :=
  (pJ μ 9 a0 33 0).bind fun m1 =>
  (gR m1 9 a0 34).bind fun v2 =>
  (uJ m1 v2 0 1).bind fun m3 =>
  (gR m3 9 a0 34).bind fun v4 =>
  (uJ m3 v4 1 0).bind fun m5 =>
  (gR m5 9 a0 34).bind fun v6 =>
  (uJ m5 v6 2 0).bind fun m7 =>
  (gR m7 9 a0 34).bind fun v8 =>
  (uJ m7 v8 3 1).bind fun m9 =>
  s_X11_reduces_l33 a0 m9
theorem w_X11_reduces {Z : Zt} {fin : Me} {w : Me} (C : CX Z yX11_reduces cX11_reduces none 2 3) {a0 : Nat} {μ : Me} (h : s_X11_reduces a0 μ = some w) (hK : w = fin) : WL Z (QN Z none fin) μ 0 [(0, vO a0)] [] := by
  unfold s_X11_reduces at h
  refine r_aload_n C 0 dX11_reduces_0 rfl rfl ?_
  refine r_lconst (v := 0) C dX11_reduces_1 (by decide) ?_
  obtain ⟨m1, em1, h⟩ := bs h
  refine r_putJ C (c := 9) (r := (RX11, TX11, 38)) rfl 33 (by decide) rfl rfl em1 q1346 dX11_reduces_2 ?_
  refine r_aload_n C 0 dX11_reduces_5 rfl rfl ?_
  obtain ⟨v2, ev2, h⟩ := bs h
  refine r_getR C (c := 9) (r := (RX11, TX11, 38)) rfl 34 (by decide) rfl ev2 q1347 dX11_reduces_6 ?_
  refine r_iconst C dX11_reduces_9 ?_
  refine r_lconst (v := 1) C dX11_reduces_10 (by decide) ?_
  obtain ⟨m3, em3, h⟩ := bs h
  refine r_last C em3 dX11_reduces_11 ?_
  refine r_aload_n C 0 dX11_reduces_12 rfl rfl ?_
  obtain ⟨v4, ev4, h⟩ := bs h
  refine r_getR C (c := 9) (r := (RX11, TX11, 38)) rfl 34 (by decide) rfl ev4 q1347 dX11_reduces_13 ?_
  refine r_iconst C dX11_reduces_16 ?_
  refine r_lconst (v := 0) C dX11_reduces_17 (by decide) ?_
  obtain ⟨m5, em5, h⟩ := bs h
  refine r_last C em5 dX11_reduces_18 ?_
  refine r_aload_n C 0 dX11_reduces_19 rfl rfl ?_
  obtain ⟨v6, ev6, h⟩ := bs h
  refine r_getR C (c := 9) (r := (RX11, TX11, 38)) rfl 34 (by decide) rfl ev6 q1347 dX11_reduces_20 ?_
  refine r_iconst C dX11_reduces_23 ?_
  refine r_lconst (v := 0) C dX11_reduces_24 (by decide) ?_
  obtain ⟨m7, em7, h⟩ := bs h
  refine r_last C em7 dX11_reduces_25 ?_
  refine r_aload_n C 0 dX11_reduces_26 rfl rfl ?_
  obtain ⟨v8, ev8, h⟩ := bs h
  refine r_getR C (c := 9) (r := (RX11, TX11, 38)) rfl 34 (by decide) rfl ev8 q1347 dX11_reduces_27 ?_
  refine r_iconst C dX11_reduces_30 ?_
  refine r_lconst (v := 1) C dX11_reduces_31 (by decide) ?_
  obtain ⟨m9, em9, h⟩ := bs h
  refine r_last C em9 dX11_reduces_32 ?_
  exact w_X11_reduces_l33 (fin := fin) C h hK
theorem hdX11_reduces : zhd yX11_reduces 0 := by decide +kernel
theorem m_X11_reduces {l : Launch} {D : va_G} {b0 : Nat} (hl : l.stackTraces = false) {a0 : Nat} {μ : Me} {w : Me} (h : s_X11_reduces a0 μ = some w) : MN l D b0 yX11_reduces (ws_ yX11_reduces cX11_reduces 3 none) 2 [vO a0] μ none w :=
  MN.of hl (by decide +kernel) (Nat.le_of_ble_eq_true rfl) (fun Z C _ _ => w_X11_reduces C h rfl)
noncomputable def s_X11_turnsOf (y0 : Int) (y2 : Int) (y4 : Int) (μ : Me) : Option (Int × Me) :=
  (if w64 y0 = w64 y4 then
  (if w64 y2 = w64 0 then
  some (4, μ)
  else
  (if w64 y2 = w64 y0 then
  some (6, μ)
  else
  some (2, μ)))
  else
  some (2, μ))
theorem w_X11_turnsOf {Z : Zt} {fin : Int × Me} {w : Int × Me} (C : CX Z yX11_turnsOf cX11_turnsOf (some .int) 1 6) {y0 : Int} {y2 : Int} {y4 : Int} {μ : Me} (h : s_X11_turnsOf y0 y2 y4 μ = some w) (hK : w = fin) : WL Z (QN Z (some (vI fin.1)) fin.2) μ 0 [(0, vJ y0), (2, vJ y2), (4, vJ y4)] [] := by
  unfold s_X11_turnsOf at h
  refine r_lload_n C 0 dX11_turnsOf_0 rfl rfl ?_
  refine r_lload C 2 dX11_turnsOf_1 rfl ?_
  refine r_lcmp_eq C dX11_turnsOf_3 dX11_turnsOf_4 (tgt := 11) (by decide) (fun c1 => ?_) (fun c1 => ?_)
  · have h := it_ h c1
    refine r_lload_n C 1 dX11_turnsOf_11 rfl rfl ?_
    refine r_lconst (v := 0) C dX11_turnsOf_12 (by decide) ?_
    refine r_lcmp_ne C dX11_turnsOf_13 dX11_turnsOf_14 (tgt := 21) (by decide) (fun c2 => ?_) (fun c2 => ?_)
    · have h := ie_ h c2
      refine r_lload_n C 1 dX11_turnsOf_21 rfl rfl ?_
      refine r_lload_n C 0 dX11_turnsOf_22 rfl rfl ?_
      refine r_lcmp_ne C dX11_turnsOf_23 dX11_turnsOf_24 (tgt := 32) (by decide) (fun c3 => ?_) (fun c3 => ?_)
      · have h := ie_ h c3
        refine r_iconst C dX11_turnsOf_32 ?_
        cases h
        exact r_iret C hK dX11_turnsOf_33
      · have h := it_ h c3
        refine r_bipush C dX11_turnsOf_27 (by decide) ?_
        refine r_goto C dX11_turnsOf_29 (tgt := 33) (by decide) ?_
        cases h
        exact r_iret C hK dX11_turnsOf_33
    · have h := it_ h c2
      refine r_iconst C dX11_turnsOf_17 ?_
      refine r_goto C dX11_turnsOf_18 (tgt := 33) (by decide) ?_
      cases h
      exact r_iret C hK dX11_turnsOf_33
  · have h := ie_ h c1
    refine r_iconst C dX11_turnsOf_7 ?_
    refine r_goto C dX11_turnsOf_8 (tgt := 33) (by decide) ?_
    cases h
    exact r_iret C hK dX11_turnsOf_33
theorem hdX11_turnsOf : zhd yX11_turnsOf 3 := by decide +kernel
theorem m_X11_turnsOf {l : Launch} {D : va_G} {b0 : Nat} (hl : l.stackTraces = false) {y0 : Int} {y2 : Int} {y4 : Int} {μ : Me} {w : Int × Me} (h : s_X11_turnsOf y0 y2 y4 μ = some w) : MN l D b0 yX11_turnsOf (ws_ yX11_turnsOf cX11_turnsOf 6 (some .int)) 1 [vJ y0, vJ y2, vJ y4] μ (some (vI w.1)) w.2 :=
  MN.of hl (by decide +kernel) (Nat.le_of_ble_eq_true rfl) (fun Z C _ _ => w_X11_turnsOf C h rfl)
noncomputable def s_X11_reduced_b100 (a0 : Nat) (x4 : Int) (t0 : Int) (t1 : Nat) (μ : Me) : Option (Int × Me) :=
  (ck μ 9 t1).bind fun _ =>
  (s_X11_throwsIf t1 t0 2 μ).bind fun q12 =>
  (if w32 q12.1 = 0 then
  (ck q12.2 9 a0).bind fun _ =>
  (s_X11_reduces a0  q12.2).bind fun q15 =>
  (if w32 x4 = 0 then
  (gJ q15 9 a0 30).bind fun v31 =>
  some (v31, q15)
  else
  (if w32 x4 = w32 1 then
  (gJ q15 9 a0 31).bind fun v30 =>
  some (v30, q15)
  else
  (if w32 x4 = w32 2 then
  (gJ q15 9 a0 32).bind fun v29 =>
  some (v29, q15)
  else
  (if w32 x4 = w32 3 then
  (gJ q15 9 a0 33).bind fun v28 =>
  some (v28, q15)
  else
  (if w32 x4 = w32 8 then
  (gJ q15 9 a0 30).bind fun v24 =>
  (gJ q15 9 a0 31).bind fun v25 =>
  (gJ q15 9 a0 32).bind fun v26 =>
  (s_X11_turnsOf v24 v25 v26 q15).bind fun q27 =>
  some ((w32 q27.1), q27.2)
  else
  (gR q15 9 a0 34).bind fun v22 =>
  (aJ q15 103 v22 (x4 - 4)).bind fun v23 =>
  some (v23, q15))))))
  else
  some (0, q12.2))
theorem w_X11_reduced_b100 {Z : Zt} {fin : Int × Me} {w : (Int × Me)} (C : CX Z yX11_reduced cX11_reduced (some .long) 3 6) {a0 : Nat} {x4 : Int} {t0 : Int} {t1 : Nat} {μ : Me} (h : s_X11_reduced_b100 a0 x4 t0 t1 μ = some w) (hK : (fun r : Int × Me => r = fin) w) : WL Z (QN Z (some (vJ fin.1)) fin.2) μ 100 [(0, vO a0), (4, vI x4)] [vI t0, vO t1] := by
  unfold s_X11_reduced_b100 at h
  refine r_iconst C dX11_reduced_100 ?_
  obtain ⟨u13, eu13, h⟩ := bs h
  obtain ⟨q12, eq12, h⟩ := bs h
  refine r_callV C (As := [vI t0, vI 2]) (b := t1) (rest := []) (st1 := [vI q12.1]) (v := some (vI q12.1)) (r := (RX11, TX11, 38)) (ci := 9) rfl eu13 (m_X11_throwsIf C.tr eq12) (lw_V q1500 q1502 qs49 q133 q1503) rfl hdX11_throwsIf rfl rfl (Nat.le_of_ble_eq_true rfl) ⟨by decide, by decide⟩ dX11_reduced_101 rfl ?_
  refine r_if_eq C dX11_reduced_104 (tgt := 109) (by decide) (fun c14 => ?_) (fun c14 => ?_)
  · have h := it_ h c14
    refine r_aload_n C 0 dX11_reduced_109 rfl rfl ?_
    obtain ⟨u16, eu16, h⟩ := bs h
    obtain ⟨q15, eq15, h⟩ := bs h
    refine r_callV C (As := []) (b := a0) (rest := []) (st1 := []) (v := none) (r := (RX11, TX11, 38)) (ci := 9) rfl eu16 (m_X11_reduces C.tr eq15) (lw_V q1912 q1914 qs114 q133 q1915) rfl hdX11_reduces rfl rfl (Nat.le_of_ble_eq_true rfl) ⟨by decide, by decide⟩ dX11_reduced_110 rfl ?_
    refine r_iload C 1 dX11_reduced_113 rfl ?_
    refine r_if_ne C dX11_reduced_115 (tgt := 125) (by decide) (fun c17 => ?_) (fun c17 => ?_)
    · have h := ie_ h c17
      refine r_iload C 1 dX11_reduced_125 rfl ?_
      refine r_iconst C dX11_reduced_127 ?_
      refine r_icmp_ne C dX11_reduced_128 (tgt := 138) (by decide) (fun c18 => ?_) (fun c18 => ?_)
      · have h := ie_ h c18
        refine r_iload C 1 dX11_reduced_138 rfl ?_
        refine r_iconst C dX11_reduced_140 ?_
        refine r_icmp_ne C dX11_reduced_141 (tgt := 151) (by decide) (fun c19 => ?_) (fun c19 => ?_)
        · have h := ie_ h c19
          refine r_iload C 1 dX11_reduced_151 rfl ?_
          refine r_iconst C dX11_reduced_153 ?_
          refine r_icmp_ne C dX11_reduced_154 (tgt := 164) (by decide) (fun c20 => ?_) (fun c20 => ?_)
          · have h := ie_ h c20
            refine r_iload C 1 dX11_reduced_164 rfl ?_
            refine r_bipush C dX11_reduced_166 (by decide) ?_
            refine r_icmp_ne C dX11_reduced_168 (tgt := 190) (by decide) (fun c21 => ?_) (fun c21 => ?_)
            · have h := ie_ h c21
              refine r_aload_n C 0 dX11_reduced_190 rfl rfl ?_
              obtain ⟨v22, ev22, h⟩ := bs h
              refine r_getR C (c := 9) (r := (RX11, TX11, 38)) rfl 34 (by decide) rfl ev22 q1347 dX11_reduced_191 ?_
              refine r_iload C 1 dX11_reduced_194 rfl ?_
              refine r_iconst C dX11_reduced_196 ?_
              refine r_isub C dX11_reduced_197 ?_
              obtain ⟨v23, ev23, h⟩ := bs h
              refine r_lald C ev23 dX11_reduced_198 ?_
              cases h
              exact r_lret C hK dX11_reduced_199
            · have h := it_ h c21
              refine r_aload_n C 0 dX11_reduced_171 rfl rfl ?_
              obtain ⟨v24, ev24, h⟩ := bs h
              refine r_getJ C (c := 9) (r := (RX11, TX11, 38)) rfl 30 (by decide) rfl ev24 q1343 dX11_reduced_172 ?_
              refine r_aload_n C 0 dX11_reduced_175 rfl rfl ?_
              obtain ⟨v25, ev25, h⟩ := bs h
              refine r_getJ C (c := 9) (r := (RX11, TX11, 38)) rfl 31 (by decide) rfl ev25 q1344 dX11_reduced_176 ?_
              refine r_aload_n C 0 dX11_reduced_179 rfl rfl ?_
              obtain ⟨v26, ev26, h⟩ := bs h
              refine r_getJ C (c := 9) (r := (RX11, TX11, 38)) rfl 32 (by decide) rfl ev26 q1345 dX11_reduced_180 ?_
              obtain ⟨q27, eq27, h⟩ := bs h
              refine r_callS C (As := [vJ v24, vJ v25, vJ v26]) (rest := []) (st1 := [vI q27.1]) (v := some (vI q27.1)) (m_X11_turnsOf C.tr eq27) (lw_S q1931 q1932 q133 q1933) hdX11_turnsOf rfl rfl (Nat.le_of_ble_eq_true rfl) ⟨by decide, by decide⟩ dX11_reduced_183 rfl ?_
              refine r_i2l C dX11_reduced_186 ?_
              refine r_goto C dX11_reduced_187 (tgt := 199) (by decide) ?_
              cases h
              exact r_lret C hK dX11_reduced_199
          · have h := it_ h c20
            refine r_aload_n C 0 dX11_reduced_157 rfl rfl ?_
            obtain ⟨v28, ev28, h⟩ := bs h
            refine r_getJ C (c := 9) (r := (RX11, TX11, 38)) rfl 33 (by decide) rfl ev28 q1346 dX11_reduced_158 ?_
            refine r_goto C dX11_reduced_161 (tgt := 199) (by decide) ?_
            cases h
            exact r_lret C hK dX11_reduced_199
        · have h := it_ h c19
          refine r_aload_n C 0 dX11_reduced_144 rfl rfl ?_
          obtain ⟨v29, ev29, h⟩ := bs h
          refine r_getJ C (c := 9) (r := (RX11, TX11, 38)) rfl 32 (by decide) rfl ev29 q1345 dX11_reduced_145 ?_
          refine r_goto C dX11_reduced_148 (tgt := 199) (by decide) ?_
          cases h
          exact r_lret C hK dX11_reduced_199
      · have h := it_ h c18
        refine r_aload_n C 0 dX11_reduced_131 rfl rfl ?_
        obtain ⟨v30, ev30, h⟩ := bs h
        refine r_getJ C (c := 9) (r := (RX11, TX11, 38)) rfl 31 (by decide) rfl ev30 q1344 dX11_reduced_132 ?_
        refine r_goto C dX11_reduced_135 (tgt := 199) (by decide) ?_
        cases h
        exact r_lret C hK dX11_reduced_199
    · have h := it_ h c17
      refine r_aload_n C 0 dX11_reduced_118 rfl rfl ?_
      obtain ⟨v31, ev31, h⟩ := bs h
      refine r_getJ C (c := 9) (r := (RX11, TX11, 38)) rfl 30 (by decide) rfl ev31 q1343 dX11_reduced_119 ?_
      refine r_goto C dX11_reduced_122 (tgt := 199) (by decide) ?_
      cases h
      exact r_lret C hK dX11_reduced_199
  · have h := ie_ h c14
    refine r_lconst (v := 0) C dX11_reduced_107 (by decide) ?_
    cases h
    exact r_lret C hK dX11_reduced_108
noncomputable def s_X11_reduced_b71 (a0 : Nat) (x4 : Int) (t0 : Int) (μ : Me) : Option (Int × Me) :=
  (ck μ 9 a0).bind fun _ =>
  (s_X11_throwsIf a0 t0 1 μ).bind fun q7 =>
  (if w32 q7.1 = 0 then
  (s_X11_in x4 0 8 q7.2).bind fun q10 =>
  (if w32 q10.1 = 0 then
  s_X11_reduced_b100 a0 x4 1 a0 q10.2
  else
  s_X11_reduced_b100 a0 x4 0 a0 q10.2)
  else
  some (0, q7.2))
theorem w_X11_reduced_b71 {Z : Zt} {fin : Int × Me} {w : (Int × Me)} (C : CX Z yX11_reduced cX11_reduced (some .long) 3 6) {a0 : Nat} {x4 : Int} {t0 : Int} {μ : Me} (h : s_X11_reduced_b71 a0 x4 t0 μ = some w) (hK : (fun r : Int × Me => r = fin) w) : WL Z (QN Z (some (vJ fin.1)) fin.2) μ 71 [(0, vO a0), (4, vI x4)] [vI t0] := by
  unfold s_X11_reduced_b71 at h
  refine r_istore C [(5, vI t0), (0, vO a0), (4, vI x4)] dX11_reduced_71 (by decide) rfl ?_
  refine r_aload_n C 1 dX11_reduced_73 rfl rfl ?_
  refine r_iload C 0 dX11_reduced_74 rfl ?_
  refine r_iconst C dX11_reduced_76 ?_
  obtain ⟨u8, eu8, h⟩ := bs h
  obtain ⟨q7, eq7, h⟩ := bs h
  refine r_callV C (As := [vI t0, vI 1]) (b := a0) (rest := []) (st1 := [vI q7.1]) (v := some (vI q7.1)) (r := (RX11, TX11, 38)) (ci := 9) rfl eu8 (m_X11_throwsIf C.tr eq7) (lw_V q1500 q1502 qs49 q133 q1503) rfl hdX11_throwsIf rfl rfl (Nat.le_of_ble_eq_true rfl) ⟨by decide, by decide⟩ dX11_reduced_77 rfl ?_
  refine r_if_ne C dX11_reduced_80 (tgt := 107) (by decide) (fun c9 => ?_) (fun c9 => ?_)
  · have h := ie_ h c9
    refine r_lconst (v := 0) C dX11_reduced_107 (by decide) ?_
    cases h
    exact r_lret C hK dX11_reduced_108
  · have h := it_ h c9
    refine r_aload_n C 1 dX11_reduced_83 rfl rfl ?_
    refine r_iload C 2 dX11_reduced_84 rfl ?_
    refine r_iconst C dX11_reduced_86 ?_
    refine r_bipush C dX11_reduced_87 (by decide) ?_
    obtain ⟨q10, eq10, h⟩ := bs h
    refine r_callS C (As := [vI x4, vI 0, vI 8]) (rest := [vO a0]) (st1 := [vI q10.1, vO a0]) (v := some (vI q10.1)) (m_X11_in C.tr eq10) (lw_S q1512 q1513 q133 q1514) hdX11_in rfl rfl (Nat.le_of_ble_eq_true rfl) ⟨by decide, by decide⟩ dX11_reduced_89 rfl ?_
    refine r_if_ne C dX11_reduced_92 (tgt := 99) (by decide) (fun c11 => ?_) (fun c11 => ?_)
    · have h := ie_ h c11
      refine r_iconst C dX11_reduced_99 ?_
      refine r_sub [1, 2] rfl ?_
      exact w_X11_reduced_b100 (fin := fin) C h hK
    · have h := it_ h c11
      refine r_iconst C dX11_reduced_95 ?_
      refine r_goto C dX11_reduced_96 (tgt := 100) (by decide) ?_
      refine r_sub [1, 2] rfl ?_
      exact w_X11_reduced_b100 (fin := fin) C h hK
noncomputable def s_X11_reduced_b66 (a0 : Nat) (x4 : Int)  (μ : Me) : Option (Int × Me) :=
  s_X11_reduced_b71 a0 x4 1 μ
theorem w_X11_reduced_b66 {Z : Zt} {fin : Int × Me} {w : (Int × Me)} (C : CX Z yX11_reduced cX11_reduced (some .long) 3 6) {a0 : Nat} {x4 : Int}  {μ : Me} (h : s_X11_reduced_b66 a0 x4 μ = some w) (hK : (fun r : Int × Me => r = fin) w) : WL Z (QN Z (some (vJ fin.1)) fin.2) μ 66 [(0, vO a0), (4, vI x4)] [] := by
  unfold s_X11_reduced_b66 at h
  refine r_iconst C dX11_reduced_66 ?_
  refine r_goto C dX11_reduced_67 (tgt := 71) (by decide) ?_
  exact w_X11_reduced_b71 (fin := fin) C h hK
noncomputable def s_X11_reduced (a0 : Nat) (x1 : Int) (x2 : Int) (x3 : Int) (x4 : Int) (μ : Me) : Option (Int × Me) :=
  (pI μ 9 a0 0 0).bind fun m1 =>
  (pJ m1 9 a0 30 (w32 x1)).bind fun m2 =>
  (pJ m2 9 a0 31 (w32 x2)).bind fun m3 =>
  (pJ m3 9 a0 32 (w32 x3)).bind fun m4 =>
  (s_X11_isThousand x1 m4).bind fun q5 =>
  (if w32 q5.1 = 0 then
  s_X11_reduced_b66 a0 x4 q5.2
  else
  (s_X11_isThousand x2 q5.2).bind fun q32 =>
  (if w32 q32.1 = 0 then
  s_X11_reduced_b66 a0 x4 q32.2
  else
  (s_X11_isThousand x3 q32.2).bind fun q34 =>
  (if w32 q34.1 = 0 then
  s_X11_reduced_b66 a0 x4 q34.2
  else
  (if w32 x1 ≤ 0 then
  s_X11_reduced_b66 a0 x4 q34.2
  else
  (if w64 ((w32 x2) * (w32 x2)) < w64 ((4 * (w32 x1)) * (w32 x3)) then
  s_X11_reduced_b71 a0 x4 0 q34.2
  else
  s_X11_reduced_b66 a0 x4 q34.2)))))
theorem w_X11_reduced {Z : Zt} {fin : Int × Me} {w : Int × Me} (C : CX Z yX11_reduced cX11_reduced (some .long) 3 6) {a0 : Nat} {x1 : Int} {x2 : Int} {x3 : Int} {x4 : Int} {μ : Me} (h : s_X11_reduced a0 x1 x2 x3 x4 μ = some w) (hK : w = fin) : WL Z (QN Z (some (vJ fin.1)) fin.2) μ 0 [(0, vO a0), (1, vI x1), (2, vI x2), (3, vI x3), (4, vI x4)] [] := by
  unfold s_X11_reduced at h
  refine r_aload_n C 0 dX11_reduced_0 rfl rfl ?_
  refine r_iconst C dX11_reduced_1 ?_
  obtain ⟨m1, em1, h⟩ := bs h
  refine r_putI C (c := 9) (r := (RX11, TX11, 38)) rfl 0 (by decide) rfl ⟨rfl, rfl⟩ rfl em1 q1313 dX11_reduced_2 ?_
  refine r_aload_n C 0 dX11_reduced_5 rfl rfl ?_
  refine r_iload_n C 1 dX11_reduced_6 rfl rfl ?_
  refine r_i2l C dX11_reduced_7 ?_
  obtain ⟨m2, em2, h⟩ := bs h
  refine r_putJ C (c := 9) (r := (RX11, TX11, 38)) rfl 30 (by decide) rfl rfl em2 q1343 dX11_reduced_8 ?_
  refine r_aload_n C 0 dX11_reduced_11 rfl rfl ?_
  refine r_iload_n C 2 dX11_reduced_12 rfl rfl ?_
  refine r_i2l C dX11_reduced_13 ?_
  obtain ⟨m3, em3, h⟩ := bs h
  refine r_putJ C (c := 9) (r := (RX11, TX11, 38)) rfl 31 (by decide) rfl rfl em3 q1344 dX11_reduced_14 ?_
  refine r_aload_n C 0 dX11_reduced_17 rfl rfl ?_
  refine r_iload_n C 3 dX11_reduced_18 rfl rfl ?_
  refine r_i2l C dX11_reduced_19 ?_
  obtain ⟨m4, em4, h⟩ := bs h
  refine r_putJ C (c := 9) (r := (RX11, TX11, 38)) rfl 32 (by decide) rfl rfl em4 q1345 dX11_reduced_20 ?_
  refine r_iload_n C 1 dX11_reduced_23 rfl rfl ?_
  obtain ⟨q5, eq5, h⟩ := bs h
  refine r_callS C (As := [vI x1]) (rest := []) (st1 := [vI q5.1]) (v := some (vI q5.1)) (m_X11_isThousand C.tr eq5) (lw_S q1908 q1909 q133 q1910) hdX11_isThousand rfl rfl (Nat.le_of_ble_eq_true rfl) ⟨by decide, by decide⟩ dX11_reduced_24 rfl ?_
  refine r_if_eq C dX11_reduced_27 (tgt := 66) (by decide) (fun c6 => ?_) (fun c6 => ?_)
  · have h := it_ h c6
    refine r_sub [0, 4] rfl ?_
    exact w_X11_reduced_b66 (fin := fin) C h hK
  · have h := ie_ h c6
    refine r_iload_n C 2 dX11_reduced_30 rfl rfl ?_
    obtain ⟨q32, eq32, h⟩ := bs h
    refine r_callS C (As := [vI x2]) (rest := []) (st1 := [vI q32.1]) (v := some (vI q32.1)) (m_X11_isThousand C.tr eq32) (lw_S q1908 q1909 q133 q1910) hdX11_isThousand rfl rfl (Nat.le_of_ble_eq_true rfl) ⟨by decide, by decide⟩ dX11_reduced_31 rfl ?_
    refine r_if_eq C dX11_reduced_34 (tgt := 66) (by decide) (fun c33 => ?_) (fun c33 => ?_)
    · have h := it_ h c33
      refine r_sub [0, 4] rfl ?_
      exact w_X11_reduced_b66 (fin := fin) C h hK
    · have h := ie_ h c33
      refine r_iload_n C 3 dX11_reduced_37 rfl rfl ?_
      obtain ⟨q34, eq34, h⟩ := bs h
      refine r_callS C (As := [vI x3]) (rest := []) (st1 := [vI q34.1]) (v := some (vI q34.1)) (m_X11_isThousand C.tr eq34) (lw_S q1908 q1909 q133 q1910) hdX11_isThousand rfl rfl (Nat.le_of_ble_eq_true rfl) ⟨by decide, by decide⟩ dX11_reduced_38 rfl ?_
      refine r_if_eq C dX11_reduced_41 (tgt := 66) (by decide) (fun c35 => ?_) (fun c35 => ?_)
      · have h := it_ h c35
        refine r_sub [0, 4] rfl ?_
        exact w_X11_reduced_b66 (fin := fin) C h hK
      · have h := ie_ h c35
        refine r_iload_n C 1 dX11_reduced_44 rfl rfl ?_
        refine r_if_le C dX11_reduced_45 (tgt := 66) (by decide) (fun c36 => ?_) (fun c36 => ?_)
        · have h := it_ h c36
          refine r_sub [0, 4] rfl ?_
          exact w_X11_reduced_b66 (fin := fin) C h hK
        · have h := ie_ h c36
          refine r_iload_n C 2 dX11_reduced_48 rfl rfl ?_
          refine r_i2l C dX11_reduced_49 ?_
          refine r_iload_n C 2 dX11_reduced_50 rfl rfl ?_
          refine r_i2l C dX11_reduced_51 ?_
          refine r_lmul C dX11_reduced_52 ?_
          refine r_ldc2 (n := 4) C q1911 dX11_reduced_53 (by decide) ?_
          refine r_iload_n C 1 dX11_reduced_56 rfl rfl ?_
          refine r_i2l C dX11_reduced_57 ?_
          refine r_lmul C dX11_reduced_58 ?_
          refine r_iload_n C 3 dX11_reduced_59 rfl rfl ?_
          refine r_i2l C dX11_reduced_60 ?_
          refine r_lmul C dX11_reduced_61 ?_
          refine r_lcmp_lt C dX11_reduced_62 dX11_reduced_63 (tgt := 70) (by decide) (fun c37 => ?_) (fun c37 => ?_)
          · have h := it_ h c37
            refine r_iconst C dX11_reduced_70 ?_
            refine r_sub [0, 4] rfl ?_
            exact w_X11_reduced_b71 (fin := fin) C h hK
          · have h := ie_ h c37
            refine r_sub [0, 4] rfl ?_
            exact w_X11_reduced_b66 (fin := fin) C h hK
theorem hdX11_reduced : zhd yX11_reduced 4 := by decide +kernel
theorem m_X11_reduced {l : Launch} {D : va_G} {b0 : Nat} (hl : l.stackTraces = false) {a0 : Nat} {x1 : Int} {x2 : Int} {x3 : Int} {x4 : Int} {μ : Me} {w : Int × Me} (h : s_X11_reduced a0 x1 x2 x3 x4 μ = some w) : MN l D b0 yX11_reduced (ws_ yX11_reduced cX11_reduced 6 (some .long)) 3 [vO a0, vI x1, vI x2, vI x3, vI x4] μ (some (vJ w.1)) w.2 :=
  MN.of hl (by decide +kernel) (Nat.le_of_ble_eq_true rfl) (fun Z C _ _ => w_X11_reduced C h rfl)
noncomputable def s_X11_noDisc (x0 : Int) (μ : Me) : Option (Int × Me) :=
  (s_X11_in x0 (-9999) (-3) μ).bind fun q1 =>
  (if w32 q1.1 = 0 then
  some (1, q1.2)
  else
  (s_J6_floorMod x0 4 q1.2).bind fun q3 =>
  (if w32 q3.1 ≤ w32 1 then
  some (0, q3.2)
  else
  some (1, q3.2)))
theorem w_X11_noDisc {Z : Zt} {fin : Int × Me} {w : Int × Me} (C : CX Z yX11_noDisc cX11_noDisc (some .boolean) 2 1) {x0 : Int} {μ : Me} (h : s_X11_noDisc x0 μ = some w) (hK : w = fin) : WL Z (QN Z (some (vI fin.1)) fin.2) μ 0 [(0, vI x0)] [] := by
  unfold s_X11_noDisc at h
  refine r_iload_n C 0 dX11_noDisc_0 rfl rfl ?_
  refine r_sipush C dX11_noDisc_1 (by decide) ?_
  refine r_bipush C dX11_noDisc_4 (by decide) ?_
  obtain ⟨q1, eq1, h⟩ := bs h
  refine r_callS C (As := [vI x0, vI (-9999), vI (-3)]) (rest := []) (st1 := [vI q1.1]) (v := some (vI q1.1)) (m_X11_in C.tr eq1) (lw_S q1512 q1513 q133 q1514) hdX11_in rfl rfl (Nat.le_of_ble_eq_true rfl) ⟨by decide, by decide⟩ dX11_noDisc_6 rfl ?_
  refine r_if_eq C dX11_noDisc_9 (tgt := 21) (by decide) (fun c2 => ?_) (fun c2 => ?_)
  · have h := it_ h c2
    refine r_iconst C dX11_noDisc_21 ?_
    refine r_goto C dX11_noDisc_22 (tgt := 26) (by decide) ?_
    cases h
    exact r_zret C (Or.inr rfl) hK dX11_noDisc_26
  · have h := ie_ h c2
    refine r_iload_n C 0 dX11_noDisc_12 rfl rfl ?_
    refine r_iconst C dX11_noDisc_13 ?_
    obtain ⟨q3, eq3, h⟩ := bs h
    refine r_callS C (As := [vI x0, vI 4]) (rest := []) (st1 := [vI q3.1]) (v := some (vI q3.1)) (m_J6_floorMod C.tr eq3) (lw_S q1941 q1264 q137 q1265) hdJ6_floorMod rfl rfl (Nat.le_of_ble_eq_true rfl) ⟨by decide, by decide⟩ dX11_noDisc_14 rfl ?_
    refine r_iconst C dX11_noDisc_17 ?_
    refine r_icmp_le C dX11_noDisc_18 (tgt := 25) (by decide) (fun c4 => ?_) (fun c4 => ?_)
    · have h := it_ h c4
      refine r_iconst C dX11_noDisc_25 ?_
      cases h
      exact r_zret C (Or.inl rfl) hK dX11_noDisc_26
    · have h := ie_ h c4
      refine r_iconst C dX11_noDisc_21 ?_
      refine r_goto C dX11_noDisc_22 (tgt := 26) (by decide) ?_
      cases h
      exact r_zret C (Or.inr rfl) hK dX11_noDisc_26
theorem hdX11_noDisc : zhd yX11_noDisc 1 := by decide +kernel
theorem m_X11_noDisc {l : Launch} {D : va_G} {b0 : Nat} (hl : l.stackTraces = false) {x0 : Int} {μ : Me} {w : Int × Me} (h : s_X11_noDisc x0 μ = some w) : MN l D b0 yX11_noDisc (ws_ yX11_noDisc cX11_noDisc 1 (some .boolean)) 2 [vI x0] μ (some (vI w.1)) w.2 :=
  MN.of hl (by decide +kernel) (Nat.le_of_ble_eq_true rfl) (fun Z C _ _ => w_X11_noDisc C h rfl)
noncomputable def s_X11_shared_l10_st (x2 : Int) (x3 : Int) (μ : Me) : Option ((Int × Int × Me) ⊕ (Int × Me)) :=
  (if w32 x3 = 0 then
  some (.inr (x2, μ))
  else
  (rmI x2 x3).bind fun v4 =>
  some (.inl (x3, v4, μ)))
theorem w_X11_shared_l10_st {Z : Zt} {fin : Int × Me} {w : ((Int × Int × Me) ⊕ (Int × Me))} (C : CX Z yX11_shared cX11_shared (some .int) 2 5) {x2 : Int} {x3 : Int} {μ : Me} (h : s_X11_shared_l10_st x2 x3 μ = some w) (hK : (Sum.elim (fun s : Int × Int × Me => WL Z (QN Z (some (vI fin.1)) fin.2) s.2.2 10 [(2, vI s.1), (3, vI s.2.1)] []) (fun r : Int × Me => r = fin)) w) : WL Z (QN Z (some (vI fin.1)) fin.2) μ 10 [(2, vI x2), (3, vI x3)] [] := by
  unfold s_X11_shared_l10_st at h
  refine r_iload_n C 1 dX11_shared_10 rfl rfl ?_
  refine r_if_eq C dX11_shared_11 (tgt := 27) (by decide) (fun c3 => ?_) (fun c3 => ?_)
  · have h := it_ h c3
    refine r_iload_n C 0 dX11_shared_27 rfl rfl ?_
    cases h
    exact r_iret C hK dX11_shared_28
  · have h := ie_ h c3
    refine r_iload_n C 0 dX11_shared_14 rfl rfl ?_
    refine r_iload_n C 1 dX11_shared_15 rfl rfl ?_
    obtain ⟨v4, ev4, h⟩ := bs h
    refine r_irem C ev4 dX11_shared_16 ?_
    refine r_istore C [(4, vI v4), (2, vI x2), (3, vI x3)] dX11_shared_17 (by decide) rfl ?_
    refine r_iload_n C 2 dX11_shared_19 rfl rfl ?_
    refine r_istore_n C [(2, vI x3), (4, vI v4), (3, vI x3)] dX11_shared_20 rfl (by decide) rfl ?_
    refine r_iload C 1 dX11_shared_21 rfl ?_
    refine r_istore_n C [(3, vI v4), (2, vI x3), (4, vI v4)] dX11_shared_23 rfl (by decide) rfl ?_
    refine r_goto C dX11_shared_24 (tgt := 10) (by decide) ?_
    cases h
    refine r_sub [1, 0] rfl ?_
    exact hK
noncomputable def s_X11_shared_l10 (x2 : Int) (x3 : Int) (μ : Me) : Option (Int × Me) :=
  whileO (fun s : Int × Int × Me => s_X11_shared_l10_st s.1 s.2.1 s.2.2) (x2, x3, μ)
theorem e_X11_shared_l10 (x2 : Int) (x3 : Int) (μ : Me) : s_X11_shared_l10 x2 x3 μ = (s_X11_shared_l10_st x2 x3 μ).bind fun x => x.elim (fun s : Int × Int × Me => s_X11_shared_l10 s.1 s.2.1 s.2.2) some := whileO_eq _ _
theorem w_X11_shared_l10 {Z : Zt} {fin : Int × Me} {w : (Int × Me)} (C : CX Z yX11_shared cX11_shared (some .int) 2 5) {x2 : Int} {x3 : Int} {μ : Me} (h : s_X11_shared_l10 x2 x3 μ = some w) (hK : (fun r : Int × Me => r = fin) w) : WL Z (QN Z (some (vI fin.1)) fin.2) μ 10 [(2, vI x2), (3, vI x3)] [] := by
  refine whileO_walk (w := w) (fun s : Int × Int × Me => WL Z (QN Z (some (vI fin.1)) fin.2) s.2.2 10 [(2, vI s.1), (3, vI s.2.1)] []) (fun s v h2 hi hr => ?_) (x2, x3, μ) h
  refine w_X11_shared_l10_st (fin := fin) C h2 ?_
  cases v with
  | inl s2 => exact hi s2 rfl
  | inr r => have e := hr r rfl; subst e; exact hK
noncomputable def s_X11_shared (x0 : Int) (x1 : Int) (μ : Me) : Option (Int × Me) :=
  (s_J6_abs x0 μ).bind fun q1 =>
  (s_J6_abs x1 q1.2).bind fun q2 =>
  s_X11_shared_l10 q1.1 q2.1 q2.2
theorem w_X11_shared {Z : Zt} {fin : Int × Me} {w : Int × Me} (C : CX Z yX11_shared cX11_shared (some .int) 2 5) {x0 : Int} {x1 : Int} {μ : Me} (h : s_X11_shared x0 x1 μ = some w) (hK : w = fin) : WL Z (QN Z (some (vI fin.1)) fin.2) μ 0 [(0, vI x0), (1, vI x1)] [] := by
  unfold s_X11_shared at h
  refine r_iload_n C 0 dX11_shared_0 rfl rfl ?_
  obtain ⟨q1, eq1, h⟩ := bs h
  refine r_callS C (As := [vI x0]) (rest := []) (st1 := [vI q1.1]) (v := some (vI q1.1)) (m_J6_abs C.tr eq1) (lw_S q1949 q1274 q137 q1275) hdJ6_abs rfl rfl (Nat.le_of_ble_eq_true rfl) ⟨by decide, by decide⟩ dX11_shared_1 rfl ?_
  refine r_istore_n C [(2, vI q1.1), (0, vI x0), (1, vI x1)] dX11_shared_4 rfl (by decide) rfl ?_
  refine r_iload_n C 2 dX11_shared_5 rfl rfl ?_
  obtain ⟨q2, eq2, h⟩ := bs h
  refine r_callS C (As := [vI x1]) (rest := []) (st1 := [vI q2.1]) (v := some (vI q2.1)) (m_J6_abs C.tr eq2) (lw_S q1949 q1274 q137 q1275) hdJ6_abs rfl rfl (Nat.le_of_ble_eq_true rfl) ⟨by decide, by decide⟩ dX11_shared_6 rfl ?_
  refine r_istore_n C [(3, vI q2.1), (2, vI q1.1), (0, vI x0), (1, vI x1)] dX11_shared_9 rfl (by decide) rfl ?_
  refine r_sub [1, 0] rfl ?_
  exact w_X11_shared_l10 (fin := fin) C h hK
theorem hdX11_shared : zhd yX11_shared 2 := by decide +kernel
theorem m_X11_shared {l : Launch} {D : va_G} {b0 : Nat} (hl : l.stackTraces = false) {x0 : Int} {x1 : Int} {μ : Me} {w : Int × Me} (h : s_X11_shared x0 x1 μ = some w) : MN l D b0 yX11_shared (ws_ yX11_shared cX11_shared 5 (some .int)) 2 [vI x0, vI x1] μ (some (vI w.1)) w.2 :=
  MN.of hl (by decide +kernel) (Nat.le_of_ble_eq_true rfl) (fun Z C _ _ => w_X11_shared C h rfl)
noncomputable def s_X11_reducedMany_b105 (a0 : Nat) (x1 : Int) (x2 : Int) (x3 : Int) (x4 : Int) (x5 : Int) (x6 : Int) (x7 : Int)  (μ : Me) : Option ((Int × Int × Me) ⊕ ((Int × Int × Me) ⊕ (Int × Me))) :=
  (if w32 x4 = w32 x3 then
  (pI μ 9 a0 35 x5).bind fun m10 =>
  (pI m10 9 a0 36 x6).bind fun m11 =>
  (pI m11 9 a0 37 x7).bind fun m12 =>
  some (.inl ((x4 + 1), (x6 + 1), m12))
  else
  some (.inl ((x4 + 1), (x6 + 1), μ)))
theorem w_X11_reducedMany_b105 {Z : Zt} {fin : Int × Me} {w : ((Int × Int × Me) ⊕ ((Int × Int × Me) ⊕ (Int × Me)))} (C : CX Z yX11_reducedMany cX11_reducedMany (some .int) 3 8) {a0 : Nat} {x1 : Int} {x2 : Int} {x3 : Int} {x4 : Int} {x5 : Int} {x6 : Int} {x7 : Int}  {μ : Me} (h : s_X11_reducedMany_b105 a0 x1 x2 x3 x4 x5 x6 x7 μ = some w) (hK : (Sum.elim (fun s : Int × Int × Me => WL Z (QN Z (some (vI fin.1)) fin.2) s.2.2 24 [(0, vO a0), (1, vI x1), (2, vI x2), (3, vI x3), (4, vI s.1), (5, vI x5), (6, vI s.2.1)] []) (Sum.elim (fun s : Int × Int × Me => WL Z (QN Z (some (vI fin.1)) fin.2) s.2.2 6 [(0, vO a0), (1, vI x1), (2, vI x2), (3, vI x3), (4, vI s.1), (5, vI s.2.1)] []) (fun r : Int × Me => r = fin))) w) : WL Z (QN Z (some (vI fin.1)) fin.2) μ 105 [(0, vO a0), (1, vI x1), (2, vI x2), (3, vI x3), (4, vI x4), (5, vI x5), (6, vI x6), (7, vI x7)] [] := by
  unfold s_X11_reducedMany_b105 at h
  refine r_iload C 4 dX11_reducedMany_105 rfl ?_
  refine r_iload_n C 3 dX11_reducedMany_107 rfl rfl ?_
  refine r_icmp_ne C dX11_reducedMany_108 (tgt := 129) (by decide) (fun c9 => ?_) (fun c9 => ?_)
  · have h := ie_ h c9
    refine r_iinc C 4 [(4, vI (x4 + 1)), (0, vO a0), (1, vI x1), (2, vI x2), (3, vI x3), (5, vI x5), (6, vI x6), (7, vI x7)] dX11_reducedMany_129 rfl (by decide) rfl ?_
    refine r_iinc C 6 [(6, vI (x6 + 1)), (4, vI (x4 + 1)), (0, vO a0), (1, vI x1), (2, vI x2), (3, vI x3), (5, vI x5), (7, vI x7)] dX11_reducedMany_132 rfl (by decide) rfl ?_
    refine r_goto C dX11_reducedMany_135 (tgt := 24) (by decide) ?_
    cases h
    refine r_sub [2, 3, 4, 5, 1, 6, 0] rfl ?_
    exact hK
  · have h := it_ h c9
    refine r_aload_n C 0 dX11_reducedMany_111 rfl rfl ?_
    refine r_iload C 5 dX11_reducedMany_112 rfl ?_
    obtain ⟨m10, em10, h⟩ := bs h
    refine r_putI C (c := 9) (r := (RX11, TX11, 38)) rfl 35 (by decide) rfl ⟨rfl, rfl⟩ rfl em10 q1348 dX11_reducedMany_114 ?_
    refine r_aload_n C 0 dX11_reducedMany_117 rfl rfl ?_
    refine r_iload C 6 dX11_reducedMany_118 rfl ?_
    obtain ⟨m11, em11, h⟩ := bs h
    refine r_putI C (c := 9) (r := (RX11, TX11, 38)) rfl 36 (by decide) rfl ⟨rfl, rfl⟩ rfl em11 q1349 dX11_reducedMany_120 ?_
    refine r_aload_n C 0 dX11_reducedMany_123 rfl rfl ?_
    refine r_iload C 7 dX11_reducedMany_124 rfl ?_
    obtain ⟨m12, em12, h⟩ := bs h
    refine r_putI C (c := 9) (r := (RX11, TX11, 38)) rfl 37 (by decide) rfl ⟨rfl, rfl⟩ rfl em12 q1350 dX11_reducedMany_126 ?_
    refine r_iinc C 4 [(4, vI (x4 + 1)), (0, vO a0), (1, vI x1), (2, vI x2), (3, vI x3), (5, vI x5), (6, vI x6), (7, vI x7)] dX11_reducedMany_129 rfl (by decide) rfl ?_
    refine r_iinc C 6 [(6, vI (x6 + 1)), (4, vI (x4 + 1)), (0, vO a0), (1, vI x1), (2, vI x2), (3, vI x3), (5, vI x5), (7, vI x7)] dX11_reducedMany_132 rfl (by decide) rfl ?_
    refine r_goto C dX11_reducedMany_135 (tgt := 24) (by decide) ?_
    cases h
    refine r_sub [2, 3, 4, 5, 1, 6, 0] rfl ?_
    exact hK
noncomputable def s_X11_reducedMany_b82 (a0 : Nat) (x1 : Int) (x2 : Int) (x3 : Int) (x4 : Int) (x5 : Int) (x6 : Int) (x7 : Int)  (μ : Me) : Option ((Int × Int × Me) ⊕ ((Int × Int × Me) ⊕ (Int × Me))) :=
  (if w32 x2 = 0 then
  (s_X11_shared x5 x6 μ).bind fun q13 =>
  (s_X11_shared q13.1 x7 q13.2).bind fun q14 =>
  (if w32 q14.1 ≤ w32 1 then
  s_X11_reducedMany_b105 a0 x1 x2 x3 x4 x5 x6 x7 q14.2
  else
  some (.inl (x4, (x6 + 1), q14.2)))
  else
  s_X11_reducedMany_b105 a0 x1 x2 x3 x4 x5 x6 x7 μ)
theorem w_X11_reducedMany_b82 {Z : Zt} {fin : Int × Me} {w : ((Int × Int × Me) ⊕ ((Int × Int × Me) ⊕ (Int × Me)))} (C : CX Z yX11_reducedMany cX11_reducedMany (some .int) 3 8) {a0 : Nat} {x1 : Int} {x2 : Int} {x3 : Int} {x4 : Int} {x5 : Int} {x6 : Int} {x7 : Int}  {μ : Me} (h : s_X11_reducedMany_b82 a0 x1 x2 x3 x4 x5 x6 x7 μ = some w) (hK : (Sum.elim (fun s : Int × Int × Me => WL Z (QN Z (some (vI fin.1)) fin.2) s.2.2 24 [(0, vO a0), (1, vI x1), (2, vI x2), (3, vI x3), (4, vI s.1), (5, vI x5), (6, vI s.2.1)] []) (Sum.elim (fun s : Int × Int × Me => WL Z (QN Z (some (vI fin.1)) fin.2) s.2.2 6 [(0, vO a0), (1, vI x1), (2, vI x2), (3, vI x3), (4, vI s.1), (5, vI s.2.1)] []) (fun r : Int × Me => r = fin))) w) : WL Z (QN Z (some (vI fin.1)) fin.2) μ 82 [(0, vO a0), (1, vI x1), (2, vI x2), (3, vI x3), (4, vI x4), (5, vI x5), (6, vI x6), (7, vI x7)] [] := by
  unfold s_X11_reducedMany_b82 at h
  refine r_iload_n C 2 dX11_reducedMany_82 rfl rfl ?_
  refine r_if_ne C dX11_reducedMany_83 (tgt := 105) (by decide) (fun c8 => ?_) (fun c8 => ?_)
  · have h := ie_ h c8
    exact w_X11_reducedMany_b105 (fin := fin) C h hK
  · have h := it_ h c8
    refine r_iload C 5 dX11_reducedMany_86 rfl ?_
    refine r_iload C 6 dX11_reducedMany_88 rfl ?_
    obtain ⟨q13, eq13, h⟩ := bs h
    refine r_callS C (As := [vI x5, vI x6]) (rest := []) (st1 := [vI q13.1]) (v := some (vI q13.1)) (m_X11_shared C.tr eq13) (lw_S q1946 q1947 q133 q1948) hdX11_shared rfl rfl (Nat.le_of_ble_eq_true rfl) ⟨by decide, by decide⟩ dX11_reducedMany_90 rfl ?_
    refine r_iload C 7 dX11_reducedMany_93 rfl ?_
    obtain ⟨q14, eq14, h⟩ := bs h
    refine r_callS C (As := [vI q13.1, vI x7]) (rest := []) (st1 := [vI q14.1]) (v := some (vI q14.1)) (m_X11_shared C.tr eq14) (lw_S q1946 q1947 q133 q1948) hdX11_shared rfl rfl (Nat.le_of_ble_eq_true rfl) ⟨by decide, by decide⟩ dX11_reducedMany_95 rfl ?_
    refine r_iconst C dX11_reducedMany_98 ?_
    refine r_icmp_le C dX11_reducedMany_99 (tgt := 105) (by decide) (fun c15 => ?_) (fun c15 => ?_)
    · have h := it_ h c15
      exact w_X11_reducedMany_b105 (fin := fin) C h hK
    · have h := ie_ h c15
      refine r_goto C dX11_reducedMany_102 (tgt := 132) (by decide) ?_
      refine r_iinc C 6 [(6, vI (x6 + 1)), (0, vO a0), (1, vI x1), (2, vI x2), (3, vI x3), (4, vI x4), (5, vI x5), (7, vI x7)] dX11_reducedMany_132 rfl (by decide) rfl ?_
      refine r_goto C dX11_reducedMany_135 (tgt := 24) (by decide) ?_
      cases h
      refine r_sub [1, 2, 3, 4, 5, 6, 0] rfl ?_
      exact hK
noncomputable def s_X11_reducedMany_l24_st (a0 : Nat) (x1 : Int) (x2 : Int) (x3 : Int) (x4 : Int) (x5 : Int) (x6 : Int) (μ : Me) : Option ((Int × Int × Me) ⊕ ((Int × Int × Me) ⊕ (Int × Me))) :=
  (if w32 x5 < w32 x6 then
  some (.inr (.inl (x4, (x5 + 1), μ)))
  else
  (rmI ((x6 * x6) - x1) (4 * x5)).bind fun v3 =>
  (if w32 v3 = 0 then
  (dvI ((x6 * x6) - x1) (4 * x5)).bind fun v5 =>
  (if w32 v5 < w32 x5 then
  some (.inl (x4, (x6 + 1), μ))
  else
  (if w32 v5 = w32 x5 then
  (if w32 x6 < 0 then
  some (.inl (x4, (x6 + 1), μ))
  else
  s_X11_reducedMany_b82 a0 x1 x2 x3 x4 x5 x6 v5 μ)
  else
  s_X11_reducedMany_b82 a0 x1 x2 x3 x4 x5 x6 v5 μ))
  else
  some (.inl (x4, (x6 + 1), μ))))
theorem w_X11_reducedMany_l24_st {Z : Zt} {fin : Int × Me} {w : ((Int × Int × Me) ⊕ ((Int × Int × Me) ⊕ (Int × Me)))} (C : CX Z yX11_reducedMany cX11_reducedMany (some .int) 3 8) {a0 : Nat} {x1 : Int} {x2 : Int} {x3 : Int} {x4 : Int} {x5 : Int} {x6 : Int} {μ : Me} (h : s_X11_reducedMany_l24_st a0 x1 x2 x3 x4 x5 x6 μ = some w) (hK : (Sum.elim (fun s : Int × Int × Me => WL Z (QN Z (some (vI fin.1)) fin.2) s.2.2 24 [(0, vO a0), (1, vI x1), (2, vI x2), (3, vI x3), (4, vI s.1), (5, vI x5), (6, vI s.2.1)] []) (Sum.elim (fun s : Int × Int × Me => WL Z (QN Z (some (vI fin.1)) fin.2) s.2.2 6 [(0, vO a0), (1, vI x1), (2, vI x2), (3, vI x3), (4, vI s.1), (5, vI s.2.1)] []) (fun r : Int × Me => r = fin))) w) : WL Z (QN Z (some (vI fin.1)) fin.2) μ 24 [(0, vO a0), (1, vI x1), (2, vI x2), (3, vI x3), (4, vI x4), (5, vI x5), (6, vI x6)] [] := by
  unfold s_X11_reducedMany_l24_st at h
  refine r_iload C 6 dX11_reducedMany_24 rfl ?_
  refine r_iload C 5 dX11_reducedMany_26 rfl ?_
  refine r_icmp_gt C dX11_reducedMany_28 (tgt := 138) (by decide) (fun c2 => ?_) (fun c2 => ?_)
  · have h := it_ h c2
    refine r_iinc C 5 [(5, vI (x5 + 1)), (0, vO a0), (1, vI x1), (2, vI x2), (3, vI x3), (4, vI x4), (6, vI x6)] dX11_reducedMany_138 rfl (by decide) rfl ?_
    refine r_goto C dX11_reducedMany_141 (tgt := 6) (by decide) ?_
    cases h
    refine r_sub [1, 2, 3, 4, 5, 0] rfl ?_
    exact hK
  · have h := ie_ h c2
    refine r_iload C 6 dX11_reducedMany_31 rfl ?_
    refine r_iload C 6 dX11_reducedMany_33 rfl ?_
    refine r_imul C dX11_reducedMany_35 ?_
    refine r_iload_n C 1 dX11_reducedMany_36 rfl rfl ?_
    refine r_isub C dX11_reducedMany_37 ?_
    refine r_iconst C dX11_reducedMany_38 ?_
    refine r_iload C 5 dX11_reducedMany_39 rfl ?_
    refine r_imul C dX11_reducedMany_41 ?_
    obtain ⟨v3, ev3, h⟩ := bs h
    refine r_irem C ev3 dX11_reducedMany_42 ?_
    refine r_if_eq C dX11_reducedMany_43 (tgt := 49) (by decide) (fun c4 => ?_) (fun c4 => ?_)
    · have h := it_ h c4
      refine r_iload C 6 dX11_reducedMany_49 rfl ?_
      refine r_iload C 6 dX11_reducedMany_51 rfl ?_
      refine r_imul C dX11_reducedMany_53 ?_
      refine r_iload_n C 1 dX11_reducedMany_54 rfl rfl ?_
      refine r_isub C dX11_reducedMany_55 ?_
      refine r_iconst C dX11_reducedMany_56 ?_
      refine r_iload C 5 dX11_reducedMany_57 rfl ?_
      refine r_imul C dX11_reducedMany_59 ?_
      obtain ⟨v5, ev5, h⟩ := bs h
      refine r_idiv C ev5 dX11_reducedMany_60 ?_
      refine r_istore C [(7, vI v5), (0, vO a0), (1, vI x1), (2, vI x2), (3, vI x3), (4, vI x4), (5, vI x5), (6, vI x6)] dX11_reducedMany_61 (by decide) rfl ?_
      refine r_iload C 0 dX11_reducedMany_63 rfl ?_
      refine r_iload C 6 dX11_reducedMany_65 rfl ?_
      refine r_icmp_lt C dX11_reducedMany_67 (tgt := 132) (by decide) (fun c6 => ?_) (fun c6 => ?_)
      · have h := it_ h c6
        refine r_iinc C 7 [(6, vI (x6 + 1)), (7, vI v5), (0, vO a0), (1, vI x1), (2, vI x2), (3, vI x3), (4, vI x4), (5, vI x5)] dX11_reducedMany_132 rfl (by decide) rfl ?_
        refine r_goto C dX11_reducedMany_135 (tgt := 24) (by decide) ?_
        cases h
        refine r_sub [2, 3, 4, 5, 6, 7, 0] rfl ?_
        exact hK
      · have h := ie_ h c6
        refine r_iload C 0 dX11_reducedMany_70 rfl ?_
        refine r_iload C 6 dX11_reducedMany_72 rfl ?_
        refine r_icmp_ne C dX11_reducedMany_74 (tgt := 82) (by decide) (fun c7 => ?_) (fun c7 => ?_)
        · have h := ie_ h c7
          refine r_sub [1, 2, 3, 4, 5, 6, 7, 0] rfl ?_
          exact w_X11_reducedMany_b82 (fin := fin) C h hK
        · have h := it_ h c7
          refine r_iload C 7 dX11_reducedMany_77 rfl ?_
          refine r_if_lt C dX11_reducedMany_79 (tgt := 132) (by decide) (fun c16 => ?_) (fun c16 => ?_)
          · have h := it_ h c16
            refine r_iinc C 7 [(6, vI (x6 + 1)), (7, vI v5), (0, vO a0), (1, vI x1), (2, vI x2), (3, vI x3), (4, vI x4), (5, vI x5)] dX11_reducedMany_132 rfl (by decide) rfl ?_
            refine r_goto C dX11_reducedMany_135 (tgt := 24) (by decide) ?_
            cases h
            refine r_sub [2, 3, 4, 5, 6, 7, 0] rfl ?_
            exact hK
          · have h := ie_ h c16
            refine r_sub [1, 2, 3, 4, 5, 6, 7, 0] rfl ?_
            exact w_X11_reducedMany_b82 (fin := fin) C h hK
    · have h := ie_ h c4
      refine r_goto C dX11_reducedMany_46 (tgt := 132) (by decide) ?_
      refine r_iinc C 6 [(6, vI (x6 + 1)), (0, vO a0), (1, vI x1), (2, vI x2), (3, vI x3), (4, vI x4), (5, vI x5)] dX11_reducedMany_132 rfl (by decide) rfl ?_
      refine r_goto C dX11_reducedMany_135 (tgt := 24) (by decide) ?_
      cases h
      refine r_sub [1, 2, 3, 4, 5, 6, 0] rfl ?_
      exact hK
noncomputable def s_X11_reducedMany_l24 (a0 : Nat) (x1 : Int) (x2 : Int) (x3 : Int) (x4 : Int) (x5 : Int) (x6 : Int) (μ : Me) : Option ((Int × Int × Me) ⊕ (Int × Me)) :=
  whileO (fun s : Int × Int × Me => s_X11_reducedMany_l24_st a0 x1 x2 x3 s.1 x5 s.2.1 s.2.2) (x4, x6, μ)
theorem e_X11_reducedMany_l24 (a0 : Nat) (x1 : Int) (x2 : Int) (x3 : Int) (x4 : Int) (x5 : Int) (x6 : Int) (μ : Me) : s_X11_reducedMany_l24 a0 x1 x2 x3 x4 x5 x6 μ = (s_X11_reducedMany_l24_st a0 x1 x2 x3 x4 x5 x6 μ).bind fun x => x.elim (fun s : Int × Int × Me => s_X11_reducedMany_l24 a0 x1 x2 x3 s.1 x5 s.2.1 s.2.2) some := whileO_eq _ _
theorem w_X11_reducedMany_l24 {Z : Zt} {fin : Int × Me} {w : ((Int × Int × Me) ⊕ (Int × Me))} (C : CX Z yX11_reducedMany cX11_reducedMany (some .int) 3 8) {a0 : Nat} {x1 : Int} {x2 : Int} {x3 : Int} {x4 : Int} {x5 : Int} {x6 : Int} {μ : Me} (h : s_X11_reducedMany_l24 a0 x1 x2 x3 x4 x5 x6 μ = some w) (hK : (Sum.elim (fun s : Int × Int × Me => WL Z (QN Z (some (vI fin.1)) fin.2) s.2.2 6 [(0, vO a0), (1, vI x1), (2, vI x2), (3, vI x3), (4, vI s.1), (5, vI s.2.1)] []) (fun r : Int × Me => r = fin)) w) : WL Z (QN Z (some (vI fin.1)) fin.2) μ 24 [(0, vO a0), (1, vI x1), (2, vI x2), (3, vI x3), (4, vI x4), (5, vI x5), (6, vI x6)] [] := by
  refine whileO_walk (w := w) (fun s : Int × Int × Me => WL Z (QN Z (some (vI fin.1)) fin.2) s.2.2 24 [(0, vO a0), (1, vI x1), (2, vI x2), (3, vI x3), (4, vI s.1), (5, vI x5), (6, vI s.2.1)] []) (fun s v h2 hi hr => ?_) (x4, x6, μ) h
  refine w_X11_reducedMany_l24_st (fin := fin) C h2 ?_
  cases v with
  | inl s2 => exact hi s2 rfl
  | inr r => have e := hr r rfl; subst e; exact hK
noncomputable def s_X11_reducedMany_l6_st (a0 : Nat) (x1 : Int) (x2 : Int) (x3 : Int) (x4 : Int) (x5 : Int) (μ : Me) : Option ((Int × Int × Me) ⊕ (Int × Me)) :=
  (if w32 (-x1) < w32 ((3 * x5) * x5) then
  some (.inr (x4, μ))
  else
  s_X11_reducedMany_l24 a0 x1 x2 x3 x4 x5 (1 - x5) μ)
theorem w_X11_reducedMany_l6_st {Z : Zt} {fin : Int × Me} {w : ((Int × Int × Me) ⊕ (Int × Me))} (C : CX Z yX11_reducedMany cX11_reducedMany (some .int) 3 8) {a0 : Nat} {x1 : Int} {x2 : Int} {x3 : Int} {x4 : Int} {x5 : Int} {μ : Me} (h : s_X11_reducedMany_l6_st a0 x1 x2 x3 x4 x5 μ = some w) (hK : (Sum.elim (fun s : Int × Int × Me => WL Z (QN Z (some (vI fin.1)) fin.2) s.2.2 6 [(0, vO a0), (1, vI x1), (2, vI x2), (3, vI x3), (4, vI s.1), (5, vI s.2.1)] []) (fun r : Int × Me => r = fin)) w) : WL Z (QN Z (some (vI fin.1)) fin.2) μ 6 [(0, vO a0), (1, vI x1), (2, vI x2), (3, vI x3), (4, vI x4), (5, vI x5)] [] := by
  unfold s_X11_reducedMany_l6_st at h
  refine r_iconst C dX11_reducedMany_6 ?_
  refine r_iload C 5 dX11_reducedMany_7 rfl ?_
  refine r_imul C dX11_reducedMany_9 ?_
  refine r_iload C 5 dX11_reducedMany_10 rfl ?_
  refine r_imul C dX11_reducedMany_12 ?_
  refine r_iload_n C 1 dX11_reducedMany_13 rfl rfl ?_
  refine r_ineg C dX11_reducedMany_14 ?_
  refine r_icmp_gt C dX11_reducedMany_15 (tgt := 144) (by decide) (fun c1 => ?_) (fun c1 => ?_)
  · have h := it_ h c1
    refine r_iload C 4 dX11_reducedMany_144 rfl ?_
    cases h
    exact r_iret C hK dX11_reducedMany_146
  · have h := ie_ h c1
    refine r_iconst C dX11_reducedMany_18 ?_
    refine r_iload C 5 dX11_reducedMany_19 rfl ?_
    refine r_isub C dX11_reducedMany_21 ?_
    refine r_istore C [(6, vI (1 - x5)), (0, vO a0), (1, vI x1), (2, vI x2), (3, vI x3), (4, vI x4), (5, vI x5)] dX11_reducedMany_22 (by decide) rfl ?_
    refine r_sub [1, 2, 3, 4, 5, 6, 0] rfl ?_
    exact w_X11_reducedMany_l24 (fin := fin) C h hK
noncomputable def s_X11_reducedMany_l6 (a0 : Nat) (x1 : Int) (x2 : Int) (x3 : Int) (x4 : Int) (x5 : Int) (μ : Me) : Option (Int × Me) :=
  whileO (fun s : Int × Int × Me => s_X11_reducedMany_l6_st a0 x1 x2 x3 s.1 s.2.1 s.2.2) (x4, x5, μ)
theorem e_X11_reducedMany_l6 (a0 : Nat) (x1 : Int) (x2 : Int) (x3 : Int) (x4 : Int) (x5 : Int) (μ : Me) : s_X11_reducedMany_l6 a0 x1 x2 x3 x4 x5 μ = (s_X11_reducedMany_l6_st a0 x1 x2 x3 x4 x5 μ).bind fun x => x.elim (fun s : Int × Int × Me => s_X11_reducedMany_l6 a0 x1 x2 x3 s.1 s.2.1 s.2.2) some := whileO_eq _ _
theorem w_X11_reducedMany_l6 {Z : Zt} {fin : Int × Me} {w : (Int × Me)} (C : CX Z yX11_reducedMany cX11_reducedMany (some .int) 3 8) {a0 : Nat} {x1 : Int} {x2 : Int} {x3 : Int} {x4 : Int} {x5 : Int} {μ : Me} (h : s_X11_reducedMany_l6 a0 x1 x2 x3 x4 x5 μ = some w) (hK : (fun r : Int × Me => r = fin) w) : WL Z (QN Z (some (vI fin.1)) fin.2) μ 6 [(0, vO a0), (1, vI x1), (2, vI x2), (3, vI x3), (4, vI x4), (5, vI x5)] [] := by
  refine whileO_walk (w := w) (fun s : Int × Int × Me => WL Z (QN Z (some (vI fin.1)) fin.2) s.2.2 6 [(0, vO a0), (1, vI x1), (2, vI x2), (3, vI x3), (4, vI s.1), (5, vI s.2.1)] []) (fun s v h2 hi hr => ?_) (x4, x5, μ) h
  refine w_X11_reducedMany_l6_st (fin := fin) C h2 ?_
  cases v with
  | inl s2 => exact hi s2 rfl
  | inr r => have e := hr r rfl; subst e; exact hK
noncomputable def s_X11_reducedMany (a0 : Nat) (x1 : Int) (x2 : Int) (x3 : Int) (μ : Me) : Option (Int × Me) :=
  s_X11_reducedMany_l6 a0 x1 x2 x3 0 1 μ
theorem w_X11_reducedMany {Z : Zt} {fin : Int × Me} {w : Int × Me} (C : CX Z yX11_reducedMany cX11_reducedMany (some .int) 3 8) {a0 : Nat} {x1 : Int} {x2 : Int} {x3 : Int} {μ : Me} (h : s_X11_reducedMany a0 x1 x2 x3 μ = some w) (hK : w = fin) : WL Z (QN Z (some (vI fin.1)) fin.2) μ 0 [(0, vO a0), (1, vI x1), (2, vI x2), (3, vI x3)] [] := by
  unfold s_X11_reducedMany at h
  refine r_iconst C dX11_reducedMany_0 ?_
  refine r_istore C [(4, vI 0), (0, vO a0), (1, vI x1), (2, vI x2), (3, vI x3)] dX11_reducedMany_1 (by decide) rfl ?_
  refine r_iconst C dX11_reducedMany_3 ?_
  refine r_istore C [(5, vI 1), (4, vI 0), (0, vO a0), (1, vI x1), (2, vI x2), (3, vI x3)] dX11_reducedMany_4 (by decide) rfl ?_
  refine r_sub [2, 3, 4, 5, 1, 0] rfl ?_
  exact w_X11_reducedMany_l6 (fin := fin) C h hK
theorem hdX11_reducedMany : zhd yX11_reducedMany 3 := by decide +kernel
theorem m_X11_reducedMany {l : Launch} {D : va_G} {b0 : Nat} (hl : l.stackTraces = false) {a0 : Nat} {x1 : Int} {x2 : Int} {x3 : Int} {μ : Me} {w : Int × Me} (h : s_X11_reducedMany a0 x1 x2 x3 μ = some w) : MN l D b0 yX11_reducedMany (ws_ yX11_reducedMany cX11_reducedMany 8 (some .int)) 3 [vO a0, vI x1, vI x2, vI x3] μ (some (vI w.1)) w.2 :=
  MN.of hl (by decide +kernel) (Nat.le_of_ble_eq_true rfl) (fun Z C _ _ => w_X11_reducedMany C h rfl)
noncomputable def s_X11_classes (a0 : Nat) (x1 : Int) (x2 : Int) (μ : Me) : Option (Int × Me) :=
  (pI μ 9 a0 0 0).bind fun m1 =>
  (s_X11_noDisc x1 m1).bind fun q2 =>
  (ck q2.2 9 a0).bind fun _ =>
  (s_X11_throwsIf a0 q2.1 1 q2.2).bind fun q3 =>
  (if w32 q3.1 = 0 then
  (ck q3.2 9 a0).bind fun _ =>
  (s_X11_reducedMany a0 x1 x2 (-1) q3.2).bind fun q6 =>
  some (q6.1, q6.2)
  else
  some (0, q3.2))
theorem w_X11_classes {Z : Zt} {fin : Int × Me} {w : Int × Me} (C : CX Z yX11_classes cX11_classes (some .int) 4 3) {a0 : Nat} {x1 : Int} {x2 : Int} {μ : Me} (h : s_X11_classes a0 x1 x2 μ = some w) (hK : w = fin) : WL Z (QN Z (some (vI fin.1)) fin.2) μ 0 [(0, vO a0), (1, vI x1), (2, vI x2)] [] := by
  unfold s_X11_classes at h
  refine r_aload_n C 0 dX11_classes_0 rfl rfl ?_
  refine r_iconst C dX11_classes_1 ?_
  obtain ⟨m1, em1, h⟩ := bs h
  refine r_putI C (c := 9) (r := (RX11, TX11, 38)) rfl 0 (by decide) rfl ⟨rfl, rfl⟩ rfl em1 q1313 dX11_classes_2 ?_
  refine r_aload_n C 0 dX11_classes_5 rfl rfl ?_
  refine r_iload_n C 1 dX11_classes_6 rfl rfl ?_
  obtain ⟨q2, eq2, h⟩ := bs h
  refine r_callS C (As := [vI x1]) (rest := [vO a0]) (st1 := [vI q2.1, vO a0]) (v := some (vI q2.1)) (m_X11_noDisc C.tr eq2) (lw_S q1938 q1939 q133 q1940) hdX11_noDisc rfl rfl (Nat.le_of_ble_eq_true rfl) ⟨by decide, by decide⟩ dX11_classes_7 rfl ?_
  refine r_iconst C dX11_classes_10 ?_
  obtain ⟨u4, eu4, h⟩ := bs h
  obtain ⟨q3, eq3, h⟩ := bs h
  refine r_callV C (As := [vI q2.1, vI 1]) (b := a0) (rest := []) (st1 := [vI q3.1]) (v := some (vI q3.1)) (r := (RX11, TX11, 38)) (ci := 9) rfl eu4 (m_X11_throwsIf C.tr eq3) (lw_V q1500 q1502 qs49 q133 q1503) rfl hdX11_throwsIf rfl rfl (Nat.le_of_ble_eq_true rfl) ⟨by decide, by decide⟩ dX11_classes_11 rfl ?_
  refine r_if_eq C dX11_classes_14 (tgt := 21) (by decide) (fun c5 => ?_) (fun c5 => ?_)
  · have h := it_ h c5
    refine r_aload_n C 0 dX11_classes_21 rfl rfl ?_
    refine r_iload_n C 1 dX11_classes_22 rfl rfl ?_
    refine r_iload_n C 2 dX11_classes_23 rfl rfl ?_
    refine r_iconst C dX11_classes_24 ?_
    obtain ⟨u7, eu7, h⟩ := bs h
    obtain ⟨q6, eq6, h⟩ := bs h
    refine r_callV C (As := [vI x1, vI x2, vI (-1)]) (b := a0) (rest := []) (st1 := [vI q6.1]) (v := some (vI q6.1)) (r := (RX11, TX11, 38)) (ci := 9) rfl eu7 (m_X11_reducedMany C.tr eq6) (lw_V q1942 q1944 qs118 q133 q1945) rfl hdX11_reducedMany rfl rfl (Nat.le_of_ble_eq_true rfl) ⟨by decide, by decide⟩ dX11_classes_25 rfl ?_
    cases h
    exact r_iret C hK dX11_classes_28
  · have h := ie_ h c5
    refine r_iconst C dX11_classes_17 ?_
    refine r_goto C dX11_classes_18 (tgt := 28) (by decide) ?_
    cases h
    exact r_iret C hK dX11_classes_28
theorem hdX11_classes : zhd yX11_classes 2 := by decide +kernel
theorem m_X11_classes {l : Launch} {D : va_G} {b0 : Nat} (hl : l.stackTraces = false) {a0 : Nat} {x1 : Int} {x2 : Int} {μ : Me} {w : Int × Me} (h : s_X11_classes a0 x1 x2 μ = some w) : MN l D b0 yX11_classes (ws_ yX11_classes cX11_classes 3 (some .int)) 4 [vO a0, vI x1, vI x2] μ (some (vI w.1)) w.2 :=
  MN.of hl (by decide +kernel) (Nat.le_of_ble_eq_true rfl) (fun Z C _ _ => w_X11_classes C h rfl)
noncomputable def s_X11_reducedAt_b44 (a0 : Nat) (x1 : Int) (x2 : Int) (x3 : Int) (t0 : Int) (t1 : Nat) (μ : Me) : Option (Int × Me) :=
  (ck μ 9 t1).bind fun _ =>
  (s_X11_throwsIf t1 t0 2 μ).bind fun q9 =>
  (if w32 q9.1 = 0 then
  (ck q9.2 9 a0).bind fun _ =>
  (s_X11_reducedMany a0 x1 0 x2 q9.2).bind fun q12 =>
  (if w32 x2 < w32 q12.1 then
  (if w32 x3 = 0 then
  (gI q12.2 9 a0 35).bind fun v19 =>
  some (v19, q12.2)
  else
  (if w32 x3 = w32 1 then
  (gI q12.2 9 a0 36).bind fun v18 =>
  some (v18, q12.2)
  else
  (gI q12.2 9 a0 37).bind fun v17 =>
  some (v17, q12.2)))
  else
  some ((-9999), q12.2))
  else
  some (0, q9.2))
theorem w_X11_reducedAt_b44 {Z : Zt} {fin : Int × Me} {w : (Int × Me)} (C : CX Z yX11_reducedAt cX11_reducedAt (some .int) 4 4) {a0 : Nat} {x1 : Int} {x2 : Int} {x3 : Int} {t0 : Int} {t1 : Nat} {μ : Me} (h : s_X11_reducedAt_b44 a0 x1 x2 x3 t0 t1 μ = some w) (hK : (fun r : Int × Me => r = fin) w) : WL Z (QN Z (some (vI fin.1)) fin.2) μ 44 [(0, vO a0), (1, vI x1), (2, vI x2), (3, vI x3)] [vI t0, vO t1] := by
  unfold s_X11_reducedAt_b44 at h
  refine r_iconst C dX11_reducedAt_44 ?_
  obtain ⟨u10, eu10, h⟩ := bs h
  obtain ⟨q9, eq9, h⟩ := bs h
  refine r_callV C (As := [vI t0, vI 2]) (b := t1) (rest := []) (st1 := [vI q9.1]) (v := some (vI q9.1)) (r := (RX11, TX11, 38)) (ci := 9) rfl eu10 (m_X11_throwsIf C.tr eq9) (lw_V q1500 q1502 qs49 q133 q1503) rfl hdX11_throwsIf rfl rfl (Nat.le_of_ble_eq_true rfl) ⟨by decide, by decide⟩ dX11_reducedAt_45 rfl ?_
  refine r_if_eq C dX11_reducedAt_48 (tgt := 53) (by decide) (fun c11 => ?_) (fun c11 => ?_)
  · have h := it_ h c11
    refine r_iload_n C 2 dX11_reducedAt_53 rfl rfl ?_
    refine r_aload_n C 0 dX11_reducedAt_54 rfl rfl ?_
    refine r_iload_n C 1 dX11_reducedAt_55 rfl rfl ?_
    refine r_iconst C dX11_reducedAt_56 ?_
    refine r_iload_n C 2 dX11_reducedAt_57 rfl rfl ?_
    obtain ⟨u13, eu13, h⟩ := bs h
    obtain ⟨q12, eq12, h⟩ := bs h
    refine r_callV C (As := [vI x1, vI 0, vI x2]) (b := a0) (rest := [vI x2]) (st1 := [vI q12.1, vI x2]) (v := some (vI q12.1)) (r := (RX11, TX11, 38)) (ci := 9) rfl eu13 (m_X11_reducedMany C.tr eq12) (lw_V q1942 q1944 qs118 q133 q1945) rfl hdX11_reducedMany rfl rfl (Nat.le_of_ble_eq_true rfl) ⟨by decide, by decide⟩ dX11_reducedAt_58 rfl ?_
    refine r_icmp_lt C dX11_reducedAt_61 (tgt := 70) (by decide) (fun c14 => ?_) (fun c14 => ?_)
    · have h := it_ h c14
      refine r_iload_n C 3 dX11_reducedAt_70 rfl rfl ?_
      refine r_if_ne C dX11_reducedAt_71 (tgt := 81) (by decide) (fun c15 => ?_) (fun c15 => ?_)
      · have h := ie_ h c15
        refine r_iload_n C 3 dX11_reducedAt_81 rfl rfl ?_
        refine r_iconst C dX11_reducedAt_82 ?_
        refine r_icmp_ne C dX11_reducedAt_83 (tgt := 93) (by decide) (fun c16 => ?_) (fun c16 => ?_)
        · have h := ie_ h c16
          refine r_aload_n C 0 dX11_reducedAt_93 rfl rfl ?_
          obtain ⟨v17, ev17, h⟩ := bs h
          refine r_getI C (c := 9) (r := (RX11, TX11, 38)) rfl 37 (by decide) rfl ev17 q1350 dX11_reducedAt_94 ?_
          cases h
          exact r_iret C hK dX11_reducedAt_97
        · have h := it_ h c16
          refine r_aload_n C 0 dX11_reducedAt_86 rfl rfl ?_
          obtain ⟨v18, ev18, h⟩ := bs h
          refine r_getI C (c := 9) (r := (RX11, TX11, 38)) rfl 36 (by decide) rfl ev18 q1349 dX11_reducedAt_87 ?_
          refine r_goto C dX11_reducedAt_90 (tgt := 97) (by decide) ?_
          cases h
          exact r_iret C hK dX11_reducedAt_97
      · have h := it_ h c15
        refine r_aload_n C 0 dX11_reducedAt_74 rfl rfl ?_
        obtain ⟨v19, ev19, h⟩ := bs h
        refine r_getI C (c := 9) (r := (RX11, TX11, 38)) rfl 35 (by decide) rfl ev19 q1348 dX11_reducedAt_75 ?_
        refine r_goto C dX11_reducedAt_78 (tgt := 97) (by decide) ?_
        cases h
        exact r_iret C hK dX11_reducedAt_97
    · have h := ie_ h c14
      refine r_sipush C dX11_reducedAt_64 (by decide) ?_
      refine r_goto C dX11_reducedAt_67 (tgt := 97) (by decide) ?_
      cases h
      exact r_iret C hK dX11_reducedAt_97
  · have h := ie_ h c11
    refine r_iconst C dX11_reducedAt_51 ?_
    cases h
    exact r_iret C hK dX11_reducedAt_52
noncomputable def s_X11_reducedAt_b22 (a0 : Nat) (x1 : Int) (x2 : Int) (x3 : Int) (t0 : Int) (t1 : Nat) (μ : Me) : Option (Int × Me) :=
  (ck μ 9 t1).bind fun _ =>
  (s_X11_throwsIf t1 t0 1 μ).bind fun q4 =>
  (if w32 q4.1 = 0 then
  (s_X11_in x3 0 2 q4.2).bind fun q7 =>
  (if w32 q7.1 = 0 then
  s_X11_reducedAt_b44 a0 x1 x2 x3 1 a0 q7.2
  else
  s_X11_reducedAt_b44 a0 x1 x2 x3 0 a0 q7.2)
  else
  some (0, q4.2))
theorem w_X11_reducedAt_b22 {Z : Zt} {fin : Int × Me} {w : (Int × Me)} (C : CX Z yX11_reducedAt cX11_reducedAt (some .int) 4 4) {a0 : Nat} {x1 : Int} {x2 : Int} {x3 : Int} {t0 : Int} {t1 : Nat} {μ : Me} (h : s_X11_reducedAt_b22 a0 x1 x2 x3 t0 t1 μ = some w) (hK : (fun r : Int × Me => r = fin) w) : WL Z (QN Z (some (vI fin.1)) fin.2) μ 22 [(0, vO a0), (1, vI x1), (2, vI x2), (3, vI x3)] [vI t0, vO t1] := by
  unfold s_X11_reducedAt_b22 at h
  refine r_iconst C dX11_reducedAt_22 ?_
  obtain ⟨u5, eu5, h⟩ := bs h
  obtain ⟨q4, eq4, h⟩ := bs h
  refine r_callV C (As := [vI t0, vI 1]) (b := t1) (rest := []) (st1 := [vI q4.1]) (v := some (vI q4.1)) (r := (RX11, TX11, 38)) (ci := 9) rfl eu5 (m_X11_throwsIf C.tr eq4) (lw_V q1500 q1502 qs49 q133 q1503) rfl hdX11_throwsIf rfl rfl (Nat.le_of_ble_eq_true rfl) ⟨by decide, by decide⟩ dX11_reducedAt_23 rfl ?_
  refine r_if_ne C dX11_reducedAt_26 (tgt := 51) (by decide) (fun c6 => ?_) (fun c6 => ?_)
  · have h := ie_ h c6
    refine r_iconst C dX11_reducedAt_51 ?_
    cases h
    exact r_iret C hK dX11_reducedAt_52
  · have h := it_ h c6
    refine r_aload_n C 0 dX11_reducedAt_29 rfl rfl ?_
    refine r_iload_n C 3 dX11_reducedAt_30 rfl rfl ?_
    refine r_iconst C dX11_reducedAt_31 ?_
    refine r_iconst C dX11_reducedAt_32 ?_
    obtain ⟨q7, eq7, h⟩ := bs h
    refine r_callS C (As := [vI x3, vI 0, vI 2]) (rest := [vO a0]) (st1 := [vI q7.1, vO a0]) (v := some (vI q7.1)) (m_X11_in C.tr eq7) (lw_S q1512 q1513 q133 q1514) hdX11_in rfl rfl (Nat.le_of_ble_eq_true rfl) ⟨by decide, by decide⟩ dX11_reducedAt_33 rfl ?_
    refine r_if_ne C dX11_reducedAt_36 (tgt := 43) (by decide) (fun c8 => ?_) (fun c8 => ?_)
    · have h := ie_ h c8
      refine r_iconst C dX11_reducedAt_43 ?_
      exact w_X11_reducedAt_b44 (fin := fin) C h hK
    · have h := it_ h c8
      refine r_iconst C dX11_reducedAt_39 ?_
      refine r_goto C dX11_reducedAt_40 (tgt := 44) (by decide) ?_
      exact w_X11_reducedAt_b44 (fin := fin) C h hK
noncomputable def s_X11_reducedAt_b17 (a0 : Nat) (x1 : Int) (x2 : Int) (x3 : Int) (t0 : Nat) (μ : Me) : Option (Int × Me) :=
  s_X11_reducedAt_b22 a0 x1 x2 x3 1 t0 μ
theorem w_X11_reducedAt_b17 {Z : Zt} {fin : Int × Me} {w : (Int × Me)} (C : CX Z yX11_reducedAt cX11_reducedAt (some .int) 4 4) {a0 : Nat} {x1 : Int} {x2 : Int} {x3 : Int} {t0 : Nat} {μ : Me} (h : s_X11_reducedAt_b17 a0 x1 x2 x3 t0 μ = some w) (hK : (fun r : Int × Me => r = fin) w) : WL Z (QN Z (some (vI fin.1)) fin.2) μ 17 [(0, vO a0), (1, vI x1), (2, vI x2), (3, vI x3)] [vO t0] := by
  unfold s_X11_reducedAt_b17 at h
  refine r_iconst C dX11_reducedAt_17 ?_
  refine r_goto C dX11_reducedAt_18 (tgt := 22) (by decide) ?_
  exact w_X11_reducedAt_b22 (fin := fin) C h hK
noncomputable def s_X11_reducedAt (a0 : Nat) (x1 : Int) (x2 : Int) (x3 : Int) (μ : Me) : Option (Int × Me) :=
  (pI μ 9 a0 0 0).bind fun m1 =>
  (s_X11_noDisc x1 m1).bind fun q2 =>
  (if w32 q2.1 = 0 then
  (if 0 ≤ w32 x2 then
  s_X11_reducedAt_b22 a0 x1 x2 x3 0 a0 q2.2
  else
  s_X11_reducedAt_b17 a0 x1 x2 x3 a0 q2.2)
  else
  s_X11_reducedAt_b17 a0 x1 x2 x3 a0 q2.2)
theorem w_X11_reducedAt {Z : Zt} {fin : Int × Me} {w : Int × Me} (C : CX Z yX11_reducedAt cX11_reducedAt (some .int) 4 4) {a0 : Nat} {x1 : Int} {x2 : Int} {x3 : Int} {μ : Me} (h : s_X11_reducedAt a0 x1 x2 x3 μ = some w) (hK : w = fin) : WL Z (QN Z (some (vI fin.1)) fin.2) μ 0 [(0, vO a0), (1, vI x1), (2, vI x2), (3, vI x3)] [] := by
  unfold s_X11_reducedAt at h
  refine r_aload_n C 0 dX11_reducedAt_0 rfl rfl ?_
  refine r_iconst C dX11_reducedAt_1 ?_
  obtain ⟨m1, em1, h⟩ := bs h
  refine r_putI C (c := 9) (r := (RX11, TX11, 38)) rfl 0 (by decide) rfl ⟨rfl, rfl⟩ rfl em1 q1313 dX11_reducedAt_2 ?_
  refine r_aload_n C 0 dX11_reducedAt_5 rfl rfl ?_
  refine r_iload_n C 1 dX11_reducedAt_6 rfl rfl ?_
  obtain ⟨q2, eq2, h⟩ := bs h
  refine r_callS C (As := [vI x1]) (rest := [vO a0]) (st1 := [vI q2.1, vO a0]) (v := some (vI q2.1)) (m_X11_noDisc C.tr eq2) (lw_S q1938 q1939 q133 q1940) hdX11_noDisc rfl rfl (Nat.le_of_ble_eq_true rfl) ⟨by decide, by decide⟩ dX11_reducedAt_7 rfl ?_
  refine r_if_ne C dX11_reducedAt_10 (tgt := 17) (by decide) (fun c3 => ?_) (fun c3 => ?_)
  · have h := ie_ h c3
    exact w_X11_reducedAt_b17 (fin := fin) C h hK
  · have h := it_ h c3
    refine r_iload_n C 2 dX11_reducedAt_13 rfl rfl ?_
    refine r_if_ge C dX11_reducedAt_14 (tgt := 21) (by decide) (fun c20 => ?_) (fun c20 => ?_)
    · have h := it_ h c20
      refine r_iconst C dX11_reducedAt_21 ?_
      exact w_X11_reducedAt_b22 (fin := fin) C h hK
    · have h := ie_ h c20
      exact w_X11_reducedAt_b17 (fin := fin) C h hK
theorem hdX11_reducedAt : zhd yX11_reducedAt 3 := by decide +kernel
theorem m_X11_reducedAt {l : Launch} {D : va_G} {b0 : Nat} (hl : l.stackTraces = false) {a0 : Nat} {x1 : Int} {x2 : Int} {x3 : Int} {μ : Me} {w : Int × Me} (h : s_X11_reducedAt a0 x1 x2 x3 μ = some w) : MN l D b0 yX11_reducedAt (ws_ yX11_reducedAt cX11_reducedAt 4 (some .int)) 4 [vO a0, vI x1, vI x2, vI x3] μ (some (vI w.1)) w.2 :=
  MN.of hl (by decide +kernel) (Nat.le_of_ble_eq_true rfl) (fun Z C _ _ => w_X11_reducedAt C h rfl)
noncomputable def s_X11_isThirty (x0 : Int) (μ : Me) : Option (Int × Me) :=
  (s_X11_in x0 (-30) 30 μ).bind fun q1 =>
  (bz2 q1.1).bind fun _ =>
  some (q1.1, q1.2)
theorem w_X11_isThirty {Z : Zt} {fin : Int × Me} {w : Int × Me} (C : CX Z yX11_isThirty cX11_isThirty (some .boolean) 2 1) {x0 : Int} {μ : Me} (h : s_X11_isThirty x0 μ = some w) (hK : w = fin) : WL Z (QN Z (some (vI fin.1)) fin.2) μ 0 [(0, vI x0)] [] := by
  unfold s_X11_isThirty at h
  refine r_iload_n C 0 dX11_isThirty_0 rfl rfl ?_
  refine r_bipush C dX11_isThirty_1 (by decide) ?_
  refine r_bipush C dX11_isThirty_3 (by decide) ?_
  obtain ⟨q1, eq1, h⟩ := bs h
  refine r_callS C (As := [vI x0, vI (-30), vI 30]) (rest := []) (st1 := [vI q1.1]) (v := some (vI q1.1)) (m_X11_in C.tr eq1) (lw_S q1512 q1513 q133 q1514) hdX11_in rfl rfl (Nat.le_of_ble_eq_true rfl) ⟨by decide, by decide⟩ dX11_isThirty_5 rfl ?_
  obtain ⟨u2, eu2, h⟩ := bs h
  cases h
  exact r_zret C (bz2_ok eu2) hK dX11_isThirty_8
theorem hdX11_isThirty : zhd yX11_isThirty 1 := by decide +kernel
theorem m_X11_isThirty {l : Launch} {D : va_G} {b0 : Nat} (hl : l.stackTraces = false) {x0 : Int} {μ : Me} {w : Int × Me} (h : s_X11_isThirty x0 μ = some w) : MN l D b0 yX11_isThirty (ws_ yX11_isThirty cX11_isThirty 1 (some .boolean)) 2 [vI x0] μ (some (vI w.1)) w.2 :=
  MN.of hl (by decide +kernel) (Nat.le_of_ble_eq_true rfl) (fun Z C _ _ => w_X11_isThirty C h rfl)
noncomputable def s_X11_realOfCubic_b67 (y0 : Int) (y2 : Int) (y4 : Int) (y8 : Int)  (μ : Me) : Option (Int × Me) :=
  (if w64 y8 ≤ w64 0 then
  (if w64 0 ≤ w64 y8 then
  (if w64 (y2 * y2) = w64 ((3 * y0) * y4) then
  some (1, μ)
  else
  some (2, μ))
  else
  some (1, μ))
  else
  some (3, μ))
theorem w_X11_realOfCubic_b67 {Z : Zt} {fin : Int × Me} {w : (Int × Me)} (C : CX Z yX11_realOfCubic cX11_realOfCubic (some .int) 1 10) {y0 : Int} {y2 : Int} {y4 : Int} {y8 : Int}  {μ : Me} (h : s_X11_realOfCubic_b67 y0 y2 y4 y8 μ = some w) (hK : (fun r : Int × Me => r = fin) w) : WL Z (QN Z (some (vI fin.1)) fin.2) μ 67 [(0, vJ y0), (2, vJ y2), (4, vJ y4), (8, vJ y8)] [] := by
  unfold s_X11_realOfCubic_b67 at h
  refine r_lload C 3 dX11_realOfCubic_67 rfl ?_
  refine r_lconst (v := 0) C dX11_realOfCubic_69 (by decide) ?_
  refine r_lcmp_le C dX11_realOfCubic_70 dX11_realOfCubic_71 (tgt := 78) (by decide) (fun c1 => ?_) (fun c1 => ?_)
  · have h := it_ h c1
    refine r_lload C 3 dX11_realOfCubic_78 rfl ?_
    refine r_lconst (v := 0) C dX11_realOfCubic_80 (by decide) ?_
    refine r_lcmp_ge C dX11_realOfCubic_81 dX11_realOfCubic_82 (tgt := 89) (by decide) (fun c2 => ?_) (fun c2 => ?_)
    · have h := it_ h c2
      refine r_lload_n C 1 dX11_realOfCubic_89 rfl rfl ?_
      refine r_lload_n C 1 dX11_realOfCubic_90 rfl rfl ?_
      refine r_lmul C dX11_realOfCubic_91 ?_
      refine r_ldc2 (n := 3) C q1966 dX11_realOfCubic_92 (by decide) ?_
      refine r_lload_n C 0 dX11_realOfCubic_95 rfl rfl ?_
      refine r_lmul C dX11_realOfCubic_96 ?_
      refine r_lload C 2 dX11_realOfCubic_97 rfl ?_
      refine r_lmul C dX11_realOfCubic_99 ?_
      refine r_lcmp_ne C dX11_realOfCubic_100 dX11_realOfCubic_101 (tgt := 108) (by decide) (fun c3 => ?_) (fun c3 => ?_)
      · have h := ie_ h c3
        refine r_iconst C dX11_realOfCubic_108 ?_
        cases h
        exact r_iret C hK dX11_realOfCubic_109
      · have h := it_ h c3
        refine r_iconst C dX11_realOfCubic_104 ?_
        refine r_goto C dX11_realOfCubic_105 (tgt := 109) (by decide) ?_
        cases h
        exact r_iret C hK dX11_realOfCubic_109
    · have h := ie_ h c2
      refine r_iconst C dX11_realOfCubic_85 ?_
      refine r_goto C dX11_realOfCubic_86 (tgt := 109) (by decide) ?_
      cases h
      exact r_iret C hK dX11_realOfCubic_109
  · have h := ie_ h c1
    refine r_iconst C dX11_realOfCubic_74 ?_
    refine r_goto C dX11_realOfCubic_75 (tgt := 109) (by decide) ?_
    cases h
    exact r_iret C hK dX11_realOfCubic_109
noncomputable def s_X11_realOfCubic (y0 : Int) (y2 : Int) (y4 : Int) (y6 : Int) (μ : Me) : Option (Int × Me) :=
  s_X11_realOfCubic_b67 y0 y2 y4 ((((((((18 * y0) * y2) * y4) * y6) - ((((4 * y2) * y2) * y2) * y6)) + (((y2 * y2) * y4) * y4)) - ((((4 * y0) * y4) * y4) * y4)) - ((((27 * y0) * y0) * y6) * y6)) μ
theorem w_X11_realOfCubic {Z : Zt} {fin : Int × Me} {w : Int × Me} (C : CX Z yX11_realOfCubic cX11_realOfCubic (some .int) 1 10) {y0 : Int} {y2 : Int} {y4 : Int} {y6 : Int} {μ : Me} (h : s_X11_realOfCubic y0 y2 y4 y6 μ = some w) (hK : w = fin) : WL Z (QN Z (some (vI fin.1)) fin.2) μ 0 [(0, vJ y0), (2, vJ y2), (4, vJ y4), (6, vJ y6)] [] := by
  unfold s_X11_realOfCubic at h
  refine r_ldc2 (n := 18) C q1964 dX11_realOfCubic_0 (by decide) ?_
  refine r_lload_n C 0 dX11_realOfCubic_3 rfl rfl ?_
  refine r_lmul C dX11_realOfCubic_4 ?_
  refine r_lload_n C 1 dX11_realOfCubic_5 rfl rfl ?_
  refine r_lmul C dX11_realOfCubic_6 ?_
  refine r_lload C 2 dX11_realOfCubic_7 rfl ?_
  refine r_lmul C dX11_realOfCubic_9 ?_
  refine r_lload C 3 dX11_realOfCubic_10 rfl ?_
  refine r_lmul C dX11_realOfCubic_12 ?_
  refine r_ldc2 (n := 4) C q1911 dX11_realOfCubic_13 (by decide) ?_
  refine r_lload_n C 1 dX11_realOfCubic_16 rfl rfl ?_
  refine r_lmul C dX11_realOfCubic_17 ?_
  refine r_lload_n C 1 dX11_realOfCubic_18 rfl rfl ?_
  refine r_lmul C dX11_realOfCubic_19 ?_
  refine r_lload_n C 1 dX11_realOfCubic_20 rfl rfl ?_
  refine r_lmul C dX11_realOfCubic_21 ?_
  refine r_lload C 3 dX11_realOfCubic_22 rfl ?_
  refine r_lmul C dX11_realOfCubic_24 ?_
  refine r_lsub C dX11_realOfCubic_25 ?_
  refine r_lload_n C 1 dX11_realOfCubic_26 rfl rfl ?_
  refine r_lload_n C 1 dX11_realOfCubic_27 rfl rfl ?_
  refine r_lmul C dX11_realOfCubic_28 ?_
  refine r_lload C 2 dX11_realOfCubic_29 rfl ?_
  refine r_lmul C dX11_realOfCubic_31 ?_
  refine r_lload C 2 dX11_realOfCubic_32 rfl ?_
  refine r_lmul C dX11_realOfCubic_34 ?_
  refine r_ladd C dX11_realOfCubic_35 ?_
  refine r_ldc2 (n := 4) C q1911 dX11_realOfCubic_36 (by decide) ?_
  refine r_lload_n C 0 dX11_realOfCubic_39 rfl rfl ?_
  refine r_lmul C dX11_realOfCubic_40 ?_
  refine r_lload C 2 dX11_realOfCubic_41 rfl ?_
  refine r_lmul C dX11_realOfCubic_43 ?_
  refine r_lload C 2 dX11_realOfCubic_44 rfl ?_
  refine r_lmul C dX11_realOfCubic_46 ?_
  refine r_lload C 2 dX11_realOfCubic_47 rfl ?_
  refine r_lmul C dX11_realOfCubic_49 ?_
  refine r_lsub C dX11_realOfCubic_50 ?_
  refine r_ldc2 (n := 27) C q1965 dX11_realOfCubic_51 (by decide) ?_
  refine r_lload_n C 0 dX11_realOfCubic_54 rfl rfl ?_
  refine r_lmul C dX11_realOfCubic_55 ?_
  refine r_lload_n C 0 dX11_realOfCubic_56 rfl rfl ?_
  refine r_lmul C dX11_realOfCubic_57 ?_
  refine r_lload C 3 dX11_realOfCubic_58 rfl ?_
  refine r_lmul C dX11_realOfCubic_60 ?_
  refine r_lload C 3 dX11_realOfCubic_61 rfl ?_
  refine r_lmul C dX11_realOfCubic_63 ?_
  refine r_lsub C dX11_realOfCubic_64 ?_
  refine r_lstore C [(8, vJ ((((((((18 * y0) * y2) * y4) * y6) - ((((4 * y2) * y2) * y2) * y6)) + (((y2 * y2) * y4) * y4)) - ((((4 * y0) * y4) * y4) * y4)) - ((((27 * y0) * y0) * y6) * y6))), (0, vJ y0), (2, vJ y2), (4, vJ y4), (6, vJ y6)] dX11_realOfCubic_65 (by decide) rfl ?_
  refine r_sub [1, 2, 3, 0] rfl ?_
  exact w_X11_realOfCubic_b67 (fin := fin) C h hK
theorem hdX11_realOfCubic : zhd yX11_realOfCubic 4 := by decide +kernel
theorem m_X11_realOfCubic {l : Launch} {D : va_G} {b0 : Nat} (hl : l.stackTraces = false) {y0 : Int} {y2 : Int} {y4 : Int} {y6 : Int} {μ : Me} {w : Int × Me} (h : s_X11_realOfCubic y0 y2 y4 y6 μ = some w) : MN l D b0 yX11_realOfCubic (ws_ yX11_realOfCubic cX11_realOfCubic 10 (some .int)) 1 [vJ y0, vJ y2, vJ y4, vJ y6] μ (some (vI w.1)) w.2 :=
  MN.of hl (by decide +kernel) (Nat.le_of_ble_eq_true rfl) (fun Z C _ _ => w_X11_realOfCubic C h rfl)
noncomputable def s_X11_realOfQuartic_b219 (y10 : Int) (y14 : Int) (y16 : Int) (y18 : Int) (y20 : Int)  (μ : Me) : Option (Int × Me) :=
  (if w64 0 ≤ w64 y14 then
  (if w64 y14 ≤ w64 0 then
  (if w64 y20 = w64 0 then
  (if w64 0 ≤ w64 y16 then
  (if w64 y10 = w64 0 then
  some (1, μ)
  else
  (if w64 y18 = w64 0 then
  some (0, μ)
  else
  some (1, μ)))
  else
  some (2, μ))
  else
  (if w64 y10 = w64 0 then
  some (2, μ)
  else
  (if w64 0 ≤ w64 y16 then
  some (1, μ)
  else
  (if w64 0 ≤ w64 y20 then
  some (1, μ)
  else
  some (3, μ)))))
  else
  (if w64 0 ≤ w64 y16 then
  some (0, μ)
  else
  (if w64 0 ≤ w64 y20 then
  some (0, μ)
  else
  some (4, μ))))
  else
  some (2, μ))
theorem w_X11_realOfQuartic_b219 {Z : Zt} {fin : Int × Me} {w : (Int × Me)} (C : CX Z yX11_realOfQuartic cX11_realOfQuartic (some .int) 1 22) {y10 : Int} {y14 : Int} {y16 : Int} {y18 : Int} {y20 : Int}  {μ : Me} (h : s_X11_realOfQuartic_b219 y10 y14 y16 y18 y20 μ = some w) (hK : (fun r : Int × Me => r = fin) w) : WL Z (QN Z (some (vI fin.1)) fin.2) μ 219 [(10, vJ y10), (14, vJ y14), (16, vJ y16), (18, vJ y18), (20, vJ y20)] [] := by
  unfold s_X11_realOfQuartic_b219 at h
  refine r_lload C 1 dX11_realOfQuartic_219 rfl ?_
  refine r_lconst (v := 0) C dX11_realOfQuartic_221 (by decide) ?_
  refine r_lcmp_ge C dX11_realOfQuartic_222 dX11_realOfQuartic_223 (tgt := 228) (by decide) (fun c1 => ?_) (fun c1 => ?_)
  · have h := it_ h c1
    refine r_lload C 1 dX11_realOfQuartic_228 rfl ?_
    refine r_lconst (v := 0) C dX11_realOfQuartic_230 (by decide) ?_
    refine r_lcmp_le C dX11_realOfQuartic_231 dX11_realOfQuartic_232 (tgt := 255) (by decide) (fun c2 => ?_) (fun c2 => ?_)
    · have h := it_ h c2
      refine r_lload C 4 dX11_realOfQuartic_255 rfl ?_
      refine r_lconst (v := 0) C dX11_realOfQuartic_257 (by decide) ?_
      refine r_lcmp_ne C dX11_realOfQuartic_258 dX11_realOfQuartic_259 (tgt := 293) (by decide) (fun c3 => ?_) (fun c3 => ?_)
      · have h := ie_ h c3
        refine r_lload C 0 dX11_realOfQuartic_293 rfl ?_
        refine r_lconst (v := 0) C dX11_realOfQuartic_295 (by decide) ?_
        refine r_lcmp_ne C dX11_realOfQuartic_296 dX11_realOfQuartic_297 (tgt := 302) (by decide) (fun c4 => ?_) (fun c4 => ?_)
        · have h := ie_ h c4
          refine r_lload C 2 dX11_realOfQuartic_302 rfl ?_
          refine r_lconst (v := 0) C dX11_realOfQuartic_304 (by decide) ?_
          refine r_lcmp_ge C dX11_realOfQuartic_305 dX11_realOfQuartic_306 (tgt := 320) (by decide) (fun c5 => ?_) (fun c5 => ?_)
          · have h := it_ h c5
            refine r_iconst C dX11_realOfQuartic_320 ?_
            cases h
            exact r_iret C hK dX11_realOfQuartic_321
          · have h := ie_ h c5
            refine r_lload C 4 dX11_realOfQuartic_309 rfl ?_
            refine r_lconst (v := 0) C dX11_realOfQuartic_311 (by decide) ?_
            refine r_lcmp_ge C dX11_realOfQuartic_312 dX11_realOfQuartic_313 (tgt := 320) (by decide) (fun c6 => ?_) (fun c6 => ?_)
            · have h := it_ h c6
              refine r_iconst C dX11_realOfQuartic_320 ?_
              cases h
              exact r_iret C hK dX11_realOfQuartic_321
            · have h := ie_ h c6
              refine r_iconst C dX11_realOfQuartic_316 ?_
              refine r_goto C dX11_realOfQuartic_317 (tgt := 321) (by decide) ?_
              cases h
              exact r_iret C hK dX11_realOfQuartic_321
        · have h := it_ h c4
          refine r_iconst C dX11_realOfQuartic_300 ?_
          cases h
          exact r_iret C hK dX11_realOfQuartic_301
      · have h := it_ h c3
        refine r_lload C 2 dX11_realOfQuartic_262 rfl ?_
        refine r_lconst (v := 0) C dX11_realOfQuartic_264 (by decide) ?_
        refine r_lcmp_ge C dX11_realOfQuartic_265 dX11_realOfQuartic_266 (tgt := 273) (by decide) (fun c7 => ?_) (fun c7 => ?_)
        · have h := it_ h c7
          refine r_lload C 0 dX11_realOfQuartic_273 rfl ?_
          refine r_lconst (v := 0) C dX11_realOfQuartic_275 (by decide) ?_
          refine r_lcmp_eq C dX11_realOfQuartic_276 dX11_realOfQuartic_277 (tgt := 287) (by decide) (fun c8 => ?_) (fun c8 => ?_)
          · have h := it_ h c8
            refine r_iconst C dX11_realOfQuartic_287 ?_
            refine r_goto C dX11_realOfQuartic_288 (tgt := 292) (by decide) ?_
            cases h
            exact r_iret C hK dX11_realOfQuartic_292
          · have h := ie_ h c8
            refine r_lload C 3 dX11_realOfQuartic_280 rfl ?_
            refine r_lconst (v := 0) C dX11_realOfQuartic_282 (by decide) ?_
            refine r_lcmp_eq C dX11_realOfQuartic_283 dX11_realOfQuartic_284 (tgt := 291) (by decide) (fun c9 => ?_) (fun c9 => ?_)
            · have h := it_ h c9
              refine r_iconst C dX11_realOfQuartic_291 ?_
              cases h
              exact r_iret C hK dX11_realOfQuartic_292
            · have h := ie_ h c9
              refine r_iconst C dX11_realOfQuartic_287 ?_
              refine r_goto C dX11_realOfQuartic_288 (tgt := 292) (by decide) ?_
              cases h
              exact r_iret C hK dX11_realOfQuartic_292
        · have h := ie_ h c7
          refine r_iconst C dX11_realOfQuartic_269 ?_
          refine r_goto C dX11_realOfQuartic_270 (tgt := 292) (by decide) ?_
          cases h
          exact r_iret C hK dX11_realOfQuartic_292
    · have h := ie_ h c2
      refine r_lload C 2 dX11_realOfQuartic_235 rfl ?_
      refine r_lconst (v := 0) C dX11_realOfQuartic_237 (by decide) ?_
      refine r_lcmp_ge C dX11_realOfQuartic_238 dX11_realOfQuartic_239 (tgt := 253) (by decide) (fun c10 => ?_) (fun c10 => ?_)
      · have h := it_ h c10
        refine r_iconst C dX11_realOfQuartic_253 ?_
        cases h
        exact r_iret C hK dX11_realOfQuartic_254
      · have h := ie_ h c10
        refine r_lload C 4 dX11_realOfQuartic_242 rfl ?_
        refine r_lconst (v := 0) C dX11_realOfQuartic_244 (by decide) ?_
        refine r_lcmp_ge C dX11_realOfQuartic_245 dX11_realOfQuartic_246 (tgt := 253) (by decide) (fun c11 => ?_) (fun c11 => ?_)
        · have h := it_ h c11
          refine r_iconst C dX11_realOfQuartic_253 ?_
          cases h
          exact r_iret C hK dX11_realOfQuartic_254
        · have h := ie_ h c11
          refine r_iconst C dX11_realOfQuartic_249 ?_
          refine r_goto C dX11_realOfQuartic_250 (tgt := 254) (by decide) ?_
          cases h
          exact r_iret C hK dX11_realOfQuartic_254
  · have h := ie_ h c1
    refine r_iconst C dX11_realOfQuartic_226 ?_
    cases h
    exact r_iret C hK dX11_realOfQuartic_227
noncomputable def s_X11_realOfQuartic_b86 (y0 : Int) (y2 : Int) (y4 : Int) (y6 : Int) (y8 : Int) (y10 : Int) (y12 : Int)  (μ : Me) : Option (Int × Me) :=
  s_X11_realOfQuartic_b219 y10 ((((4 * y10) * y10) * y10) - (y12 * y12)) (((8 * y0) * y4) - ((3 * y2) * y2)) ((((y2 * y2) * y2) + (((8 * y6) * y0) * y0)) - (((4 * y0) * y2) * y4)) ((((((((64 * y0) * y0) * y0) * y8) - ((((16 * y0) * y0) * y4) * y4)) + ((((16 * y0) * y2) * y2) * y4)) - ((((16 * y0) * y0) * y2) * y6)) - ((((3 * y2) * y2) * y2) * y2)) μ
theorem w_X11_realOfQuartic_b86 {Z : Zt} {fin : Int × Me} {w : (Int × Me)} (C : CX Z yX11_realOfQuartic cX11_realOfQuartic (some .int) 1 22) {y0 : Int} {y2 : Int} {y4 : Int} {y6 : Int} {y8 : Int} {y10 : Int} {y12 : Int}  {μ : Me} (h : s_X11_realOfQuartic_b86 y0 y2 y4 y6 y8 y10 y12 μ = some w) (hK : (fun r : Int × Me => r = fin) w) : WL Z (QN Z (some (vI fin.1)) fin.2) μ 86 [(0, vJ y0), (2, vJ y2), (4, vJ y4), (6, vJ y6), (8, vJ y8), (10, vJ y10), (12, vJ y12)] [] := by
  unfold s_X11_realOfQuartic_b86 at h
  refine r_ldc2 (n := 4) C q1911 dX11_realOfQuartic_86 (by decide) ?_
  refine r_lload C 5 dX11_realOfQuartic_89 rfl ?_
  refine r_lmul C dX11_realOfQuartic_91 ?_
  refine r_lload C 5 dX11_realOfQuartic_92 rfl ?_
  refine r_lmul C dX11_realOfQuartic_94 ?_
  refine r_lload C 5 dX11_realOfQuartic_95 rfl ?_
  refine r_lmul C dX11_realOfQuartic_97 ?_
  refine r_lload C 6 dX11_realOfQuartic_98 rfl ?_
  refine r_lload C 6 dX11_realOfQuartic_100 rfl ?_
  refine r_lmul C dX11_realOfQuartic_102 ?_
  refine r_lsub C dX11_realOfQuartic_103 ?_
  refine r_lstore C [(14, vJ ((((4 * y10) * y10) * y10) - (y12 * y12))), (0, vJ y0), (2, vJ y2), (4, vJ y4), (6, vJ y6), (8, vJ y8), (10, vJ y10), (12, vJ y12)] dX11_realOfQuartic_104 (by decide) rfl ?_
  refine r_ldc2 (n := 8) C q1973 dX11_realOfQuartic_106 (by decide) ?_
  refine r_lload_n C 1 dX11_realOfQuartic_109 rfl rfl ?_
  refine r_lmul C dX11_realOfQuartic_110 ?_
  refine r_lload C 3 dX11_realOfQuartic_111 rfl ?_
  refine r_lmul C dX11_realOfQuartic_113 ?_
  refine r_ldc2 (n := 3) C q1966 dX11_realOfQuartic_114 (by decide) ?_
  refine r_lload_n C 2 dX11_realOfQuartic_117 rfl rfl ?_
  refine r_lmul C dX11_realOfQuartic_118 ?_
  refine r_lload_n C 2 dX11_realOfQuartic_119 rfl rfl ?_
  refine r_lmul C dX11_realOfQuartic_120 ?_
  refine r_lsub C dX11_realOfQuartic_121 ?_
  refine r_lstore C [(16, vJ (((8 * y0) * y4) - ((3 * y2) * y2))), (14, vJ ((((4 * y10) * y10) * y10) - (y12 * y12))), (0, vJ y0), (2, vJ y2), (4, vJ y4), (6, vJ y6), (8, vJ y8), (10, vJ y10), (12, vJ y12)] dX11_realOfQuartic_122 (by decide) rfl ?_
  refine r_lload_n C 3 dX11_realOfQuartic_124 rfl rfl ?_
  refine r_lload_n C 3 dX11_realOfQuartic_125 rfl rfl ?_
  refine r_lmul C dX11_realOfQuartic_126 ?_
  refine r_lload_n C 3 dX11_realOfQuartic_127 rfl rfl ?_
  refine r_lmul C dX11_realOfQuartic_128 ?_
  refine r_ldc2 (n := 8) C q1973 dX11_realOfQuartic_129 (by decide) ?_
  refine r_lload C 5 dX11_realOfQuartic_132 rfl ?_
  refine r_lmul C dX11_realOfQuartic_134 ?_
  refine r_lload_n C 2 dX11_realOfQuartic_135 rfl rfl ?_
  refine r_lmul C dX11_realOfQuartic_136 ?_
  refine r_lload_n C 2 dX11_realOfQuartic_137 rfl rfl ?_
  refine r_lmul C dX11_realOfQuartic_138 ?_
  refine r_ladd C dX11_realOfQuartic_139 ?_
  refine r_ldc2 (n := 4) C q1911 dX11_realOfQuartic_140 (by decide) ?_
  refine r_lload_n C 2 dX11_realOfQuartic_143 rfl rfl ?_
  refine r_lmul C dX11_realOfQuartic_144 ?_
  refine r_lload_n C 3 dX11_realOfQuartic_145 rfl rfl ?_
  refine r_lmul C dX11_realOfQuartic_146 ?_
  refine r_lload C 4 dX11_realOfQuartic_147 rfl ?_
  refine r_lmul C dX11_realOfQuartic_149 ?_
  refine r_lsub C dX11_realOfQuartic_150 ?_
  refine r_lstore C [(18, vJ ((((y2 * y2) * y2) + (((8 * y6) * y0) * y0)) - (((4 * y0) * y2) * y4))), (16, vJ (((8 * y0) * y4) - ((3 * y2) * y2))), (14, vJ ((((4 * y10) * y10) * y10) - (y12 * y12))), (0, vJ y0), (2, vJ y2), (4, vJ y4), (6, vJ y6), (8, vJ y8), (10, vJ y10), (12, vJ y12)] dX11_realOfQuartic_151 (by decide) rfl ?_
  refine r_ldc2 (n := 64) C q1974 dX11_realOfQuartic_153 (by decide) ?_
  refine r_lload_n C 3 dX11_realOfQuartic_156 rfl rfl ?_
  refine r_lmul C dX11_realOfQuartic_157 ?_
  refine r_lload_n C 3 dX11_realOfQuartic_158 rfl rfl ?_
  refine r_lmul C dX11_realOfQuartic_159 ?_
  refine r_lload_n C 3 dX11_realOfQuartic_160 rfl rfl ?_
  refine r_lmul C dX11_realOfQuartic_161 ?_
  refine r_lload C 7 dX11_realOfQuartic_162 rfl ?_
  refine r_lmul C dX11_realOfQuartic_164 ?_
  refine r_ldc2 (n := 16) C q1975 dX11_realOfQuartic_165 (by decide) ?_
  refine r_lload_n C 3 dX11_realOfQuartic_168 rfl rfl ?_
  refine r_lmul C dX11_realOfQuartic_169 ?_
  refine r_lload_n C 3 dX11_realOfQuartic_170 rfl rfl ?_
  refine r_lmul C dX11_realOfQuartic_171 ?_
  refine r_lload C 5 dX11_realOfQuartic_172 rfl ?_
  refine r_lmul C dX11_realOfQuartic_174 ?_
  refine r_lload C 5 dX11_realOfQuartic_175 rfl ?_
  refine r_lmul C dX11_realOfQuartic_177 ?_
  refine r_lsub C dX11_realOfQuartic_178 ?_
  refine r_ldc2 (n := 16) C q1975 dX11_realOfQuartic_179 (by decide) ?_
  refine r_lload_n C 3 dX11_realOfQuartic_182 rfl rfl ?_
  refine r_lmul C dX11_realOfQuartic_183 ?_
  refine r_lload_n C 4 dX11_realOfQuartic_184 rfl rfl ?_
  refine r_lmul C dX11_realOfQuartic_185 ?_
  refine r_lload_n C 4 dX11_realOfQuartic_186 rfl rfl ?_
  refine r_lmul C dX11_realOfQuartic_187 ?_
  refine r_lload C 5 dX11_realOfQuartic_188 rfl ?_
  refine r_lmul C dX11_realOfQuartic_190 ?_
  refine r_ladd C dX11_realOfQuartic_191 ?_
  refine r_ldc2 (n := 16) C q1975 dX11_realOfQuartic_192 (by decide) ?_
  refine r_lload_n C 3 dX11_realOfQuartic_195 rfl rfl ?_
  refine r_lmul C dX11_realOfQuartic_196 ?_
  refine r_lload_n C 3 dX11_realOfQuartic_197 rfl rfl ?_
  refine r_lmul C dX11_realOfQuartic_198 ?_
  refine r_lload_n C 4 dX11_realOfQuartic_199 rfl rfl ?_
  refine r_lmul C dX11_realOfQuartic_200 ?_
  refine r_lload C 6 dX11_realOfQuartic_201 rfl ?_
  refine r_lmul C dX11_realOfQuartic_203 ?_
  refine r_lsub C dX11_realOfQuartic_204 ?_
  refine r_ldc2 (n := 3) C q1966 dX11_realOfQuartic_205 (by decide) ?_
  refine r_lload_n C 4 dX11_realOfQuartic_208 rfl rfl ?_
  refine r_lmul C dX11_realOfQuartic_209 ?_
  refine r_lload_n C 4 dX11_realOfQuartic_210 rfl rfl ?_
  refine r_lmul C dX11_realOfQuartic_211 ?_
  refine r_lload_n C 4 dX11_realOfQuartic_212 rfl rfl ?_
  refine r_lmul C dX11_realOfQuartic_213 ?_
  refine r_lload_n C 4 dX11_realOfQuartic_214 rfl rfl ?_
  refine r_lmul C dX11_realOfQuartic_215 ?_
  refine r_lsub C dX11_realOfQuartic_216 ?_
  refine r_lstore C [(20, vJ ((((((((64 * y0) * y0) * y0) * y8) - ((((16 * y0) * y0) * y4) * y4)) + ((((16 * y0) * y2) * y2) * y4)) - ((((16 * y0) * y0) * y2) * y6)) - ((((3 * y2) * y2) * y2) * y2))), (18, vJ ((((y2 * y2) * y2) + (((8 * y6) * y0) * y0)) - (((4 * y0) * y2) * y4))), (16, vJ (((8 * y0) * y4) - ((3 * y2) * y2))), (14, vJ ((((4 * y10) * y10) * y10) - (y12 * y12))), (0, vJ y0), (2, vJ y2), (4, vJ y4), (6, vJ y6), (8, vJ y8), (10, vJ y10), (12, vJ y12)] dX11_realOfQuartic_217 (by decide) rfl ?_
  refine r_sub [9, 3, 2, 1, 0] rfl ?_
  exact w_X11_realOfQuartic_b219 (fin := fin) C h hK
noncomputable def s_X11_realOfQuartic (y0 : Int) (y2 : Int) (y4 : Int) (y6 : Int) (y8 : Int) (μ : Me) : Option (Int × Me) :=
  s_X11_realOfQuartic_b86 y0 y2 y4 y6 y8 (((y4 * y4) - ((3 * y2) * y6)) + ((12 * y0) * y8)) (((((((2 * y4) * y4) * y4) - (((9 * y2) * y4) * y6)) + (((27 * y2) * y2) * y8)) + (((27 * y0) * y6) * y6)) - (((72 * y0) * y4) * y8)) μ
theorem w_X11_realOfQuartic {Z : Zt} {fin : Int × Me} {w : Int × Me} (C : CX Z yX11_realOfQuartic cX11_realOfQuartic (some .int) 1 22) {y0 : Int} {y2 : Int} {y4 : Int} {y6 : Int} {y8 : Int} {μ : Me} (h : s_X11_realOfQuartic y0 y2 y4 y6 y8 μ = some w) (hK : w = fin) : WL Z (QN Z (some (vI fin.1)) fin.2) μ 0 [(0, vJ y0), (2, vJ y2), (4, vJ y4), (6, vJ y6), (8, vJ y8)] [] := by
  unfold s_X11_realOfQuartic at h
  refine r_lload C 2 dX11_realOfQuartic_0 rfl ?_
  refine r_lload C 2 dX11_realOfQuartic_2 rfl ?_
  refine r_lmul C dX11_realOfQuartic_4 ?_
  refine r_ldc2 (n := 3) C q1966 dX11_realOfQuartic_5 (by decide) ?_
  refine r_lload_n C 1 dX11_realOfQuartic_8 rfl rfl ?_
  refine r_lmul C dX11_realOfQuartic_9 ?_
  refine r_lload C 3 dX11_realOfQuartic_10 rfl ?_
  refine r_lmul C dX11_realOfQuartic_12 ?_
  refine r_lsub C dX11_realOfQuartic_13 ?_
  refine r_ldc2 (n := 12) C q1970 dX11_realOfQuartic_14 (by decide) ?_
  refine r_lload_n C 0 dX11_realOfQuartic_17 rfl rfl ?_
  refine r_lmul C dX11_realOfQuartic_18 ?_
  refine r_lload C 4 dX11_realOfQuartic_19 rfl ?_
  refine r_lmul C dX11_realOfQuartic_21 ?_
  refine r_ladd C dX11_realOfQuartic_22 ?_
  refine r_lstore C [(10, vJ (((y4 * y4) - ((3 * y2) * y6)) + ((12 * y0) * y8))), (0, vJ y0), (2, vJ y2), (4, vJ y4), (6, vJ y6), (8, vJ y8)] dX11_realOfQuartic_23 (by decide) rfl ?_
  refine r_ldc2 (n := 2) C q1924 dX11_realOfQuartic_25 (by decide) ?_
  refine r_lload C 3 dX11_realOfQuartic_28 rfl ?_
  refine r_lmul C dX11_realOfQuartic_30 ?_
  refine r_lload C 3 dX11_realOfQuartic_31 rfl ?_
  refine r_lmul C dX11_realOfQuartic_33 ?_
  refine r_lload C 3 dX11_realOfQuartic_34 rfl ?_
  refine r_lmul C dX11_realOfQuartic_36 ?_
  refine r_ldc2 (n := 9) C q1971 dX11_realOfQuartic_37 (by decide) ?_
  refine r_lload_n C 2 dX11_realOfQuartic_40 rfl rfl ?_
  refine r_lmul C dX11_realOfQuartic_41 ?_
  refine r_lload C 3 dX11_realOfQuartic_42 rfl ?_
  refine r_lmul C dX11_realOfQuartic_44 ?_
  refine r_lload C 4 dX11_realOfQuartic_45 rfl ?_
  refine r_lmul C dX11_realOfQuartic_47 ?_
  refine r_lsub C dX11_realOfQuartic_48 ?_
  refine r_ldc2 (n := 27) C q1965 dX11_realOfQuartic_49 (by decide) ?_
  refine r_lload_n C 2 dX11_realOfQuartic_52 rfl rfl ?_
  refine r_lmul C dX11_realOfQuartic_53 ?_
  refine r_lload_n C 2 dX11_realOfQuartic_54 rfl rfl ?_
  refine r_lmul C dX11_realOfQuartic_55 ?_
  refine r_lload C 5 dX11_realOfQuartic_56 rfl ?_
  refine r_lmul C dX11_realOfQuartic_58 ?_
  refine r_ladd C dX11_realOfQuartic_59 ?_
  refine r_ldc2 (n := 27) C q1965 dX11_realOfQuartic_60 (by decide) ?_
  refine r_lload_n C 1 dX11_realOfQuartic_63 rfl rfl ?_
  refine r_lmul C dX11_realOfQuartic_64 ?_
  refine r_lload C 4 dX11_realOfQuartic_65 rfl ?_
  refine r_lmul C dX11_realOfQuartic_67 ?_
  refine r_lload C 4 dX11_realOfQuartic_68 rfl ?_
  refine r_lmul C dX11_realOfQuartic_70 ?_
  refine r_ladd C dX11_realOfQuartic_71 ?_
  refine r_ldc2 (n := 72) C q1972 dX11_realOfQuartic_72 (by decide) ?_
  refine r_lload_n C 1 dX11_realOfQuartic_75 rfl rfl ?_
  refine r_lmul C dX11_realOfQuartic_76 ?_
  refine r_lload C 3 dX11_realOfQuartic_77 rfl ?_
  refine r_lmul C dX11_realOfQuartic_79 ?_
  refine r_lload C 5 dX11_realOfQuartic_80 rfl ?_
  refine r_lmul C dX11_realOfQuartic_82 ?_
  refine r_lsub C dX11_realOfQuartic_83 ?_
  refine r_lstore C [(12, vJ (((((((2 * y4) * y4) * y4) - (((9 * y2) * y4) * y6)) + (((27 * y2) * y2) * y8)) + (((27 * y0) * y6) * y6)) - (((72 * y0) * y4) * y8))), (10, vJ (((y4 * y4) - ((3 * y2) * y6)) + ((12 * y0) * y8))), (0, vJ y0), (2, vJ y2), (4, vJ y4), (6, vJ y6), (8, vJ y8)] dX11_realOfQuartic_84 (by decide) rfl ?_
  refine r_sub [2, 3, 4, 5, 6, 1, 0] rfl ?_
  exact w_X11_realOfQuartic_b86 (fin := fin) C h hK
theorem hdX11_realOfQuartic : zhd yX11_realOfQuartic 5 := by decide +kernel
theorem m_X11_realOfQuartic {l : Launch} {D : va_G} {b0 : Nat} (hl : l.stackTraces = false) {y0 : Int} {y2 : Int} {y4 : Int} {y6 : Int} {y8 : Int} {μ : Me} {w : Int × Me} (h : s_X11_realOfQuartic y0 y2 y4 y6 y8 μ = some w) : MN l D b0 yX11_realOfQuartic (ws_ yX11_realOfQuartic cX11_realOfQuartic 22 (some .int)) 1 [vJ y0, vJ y2, vJ y4, vJ y6, vJ y8] μ (some (vI w.1)) w.2 :=
  MN.of hl (by decide +kernel) (Nat.le_of_ble_eq_true rfl) (fun Z C _ _ => w_X11_realOfQuartic C h rfl)
noncomputable def s_X11_real_b68 (x1 : Int) (x2 : Int) (x3 : Int) (x4 : Int) (x5 : Int) (t0 : Int) (t1 : Nat) (μ : Me) : Option (Int × Me) :=
  (ck μ 9 t1).bind fun _ =>
  (s_X11_throwsIf t1 t0 1 μ).bind fun q5 =>
  (if w32 q5.1 = 0 then
  (if w32 x1 = 0 then
  (s_X11_realOfCubic (w32 x2) (w32 x3) (w32 x4) (w32 x5) q5.2).bind fun q10 =>
  some (q10.1, q10.2)
  else
  (s_X11_realOfQuartic (w32 x1) (w32 x2) (w32 x3) (w32 x4) (w32 x5) q5.2).bind fun q9 =>
  some (q9.1, q9.2))
  else
  some (0, q5.2))
theorem w_X11_real_b68 {Z : Zt} {fin : Int × Me} {w : (Int × Me)} (C : CX Z yX11_real cX11_real (some .int) 3 7) {x1 : Int} {x2 : Int} {x3 : Int} {x4 : Int} {x5 : Int} {t0 : Int} {t1 : Nat} {μ : Me} (h : s_X11_real_b68 x1 x2 x3 x4 x5 t0 t1 μ = some w) (hK : (fun r : Int × Me => r = fin) w) : WL Z (QN Z (some (vI fin.1)) fin.2) μ 68 [(1, vI x1), (2, vI x2), (3, vI x3), (4, vI x4), (5, vI x5)] [vI t0, vO t1] := by
  unfold s_X11_real_b68 at h
  refine r_iconst C dX11_real_68 ?_
  obtain ⟨u6, eu6, h⟩ := bs h
  obtain ⟨q5, eq5, h⟩ := bs h
  refine r_callV C (As := [vI t0, vI 1]) (b := t1) (rest := []) (st1 := [vI q5.1]) (v := some (vI q5.1)) (r := (RX11, TX11, 38)) (ci := 9) rfl eu6 (m_X11_throwsIf C.tr eq5) (lw_V q1500 q1502 qs49 q133 q1503) rfl hdX11_throwsIf rfl rfl (Nat.le_of_ble_eq_true rfl) ⟨by decide, by decide⟩ dX11_real_69 rfl ?_
  refine r_if_eq C dX11_real_72 (tgt := 77) (by decide) (fun c7 => ?_) (fun c7 => ?_)
  · have h := it_ h c7
    refine r_iload_n C 0 dX11_real_77 rfl rfl ?_
    refine r_if_ne C dX11_real_78 (tgt := 97) (by decide) (fun c8 => ?_) (fun c8 => ?_)
    · have h := ie_ h c8
      refine r_iload_n C 0 dX11_real_97 rfl rfl ?_
      refine r_i2l C dX11_real_98 ?_
      refine r_iload_n C 1 dX11_real_99 rfl rfl ?_
      refine r_i2l C dX11_real_100 ?_
      refine r_iload_n C 2 dX11_real_101 rfl rfl ?_
      refine r_i2l C dX11_real_102 ?_
      refine r_iload C 3 dX11_real_103 rfl ?_
      refine r_i2l C dX11_real_105 ?_
      refine r_iload C 4 dX11_real_106 rfl ?_
      refine r_i2l C dX11_real_108 ?_
      obtain ⟨q9, eq9, h⟩ := bs h
      refine r_callS C (As := [vJ (w32 x1), vJ (w32 x2), vJ (w32 x3), vJ (w32 x4), vJ (w32 x5)]) (rest := []) (st1 := [vI q9.1]) (v := some (vI q9.1)) (m_X11_realOfQuartic C.tr eq9) (lw_S q1967 q1968 q133 q1969) hdX11_realOfQuartic rfl rfl (Nat.le_of_ble_eq_true rfl) ⟨by decide, by decide⟩ dX11_real_109 rfl ?_
      cases h
      exact r_iret C hK dX11_real_112
    · have h := it_ h c8
      refine r_iload_n C 1 dX11_real_81 rfl rfl ?_
      refine r_i2l C dX11_real_82 ?_
      refine r_iload_n C 2 dX11_real_83 rfl rfl ?_
      refine r_i2l C dX11_real_84 ?_
      refine r_iload C 3 dX11_real_85 rfl ?_
      refine r_i2l C dX11_real_87 ?_
      refine r_iload C 4 dX11_real_88 rfl ?_
      refine r_i2l C dX11_real_90 ?_
      obtain ⟨q10, eq10, h⟩ := bs h
      refine r_callS C (As := [vJ (w32 x2), vJ (w32 x3), vJ (w32 x4), vJ (w32 x5)]) (rest := []) (st1 := [vI q10.1]) (v := some (vI q10.1)) (m_X11_realOfCubic C.tr eq10) (lw_S q1961 q1962 q133 q1963) hdX11_realOfCubic rfl rfl (Nat.le_of_ble_eq_true rfl) ⟨by decide, by decide⟩ dX11_real_91 rfl ?_
      refine r_goto C dX11_real_94 (tgt := 112) (by decide) ?_
      cases h
      exact r_iret C hK dX11_real_112
  · have h := ie_ h c7
    refine r_iconst C dX11_real_75 ?_
    cases h
    exact r_iret C hK dX11_real_76
noncomputable def s_X11_real_b63 (x1 : Int) (x2 : Int) (x3 : Int) (x4 : Int) (x5 : Int) (t0 : Nat) (μ : Me) : Option (Int × Me) :=
  s_X11_real_b68 x1 x2 x3 x4 x5 1 t0 μ
theorem w_X11_real_b63 {Z : Zt} {fin : Int × Me} {w : (Int × Me)} (C : CX Z yX11_real cX11_real (some .int) 3 7) {x1 : Int} {x2 : Int} {x3 : Int} {x4 : Int} {x5 : Int} {t0 : Nat} {μ : Me} (h : s_X11_real_b63 x1 x2 x3 x4 x5 t0 μ = some w) (hK : (fun r : Int × Me => r = fin) w) : WL Z (QN Z (some (vI fin.1)) fin.2) μ 63 [(1, vI x1), (2, vI x2), (3, vI x3), (4, vI x4), (5, vI x5)] [vO t0] := by
  unfold s_X11_real_b63 at h
  refine r_iconst C dX11_real_63 ?_
  refine r_goto C dX11_real_64 (tgt := 68) (by decide) ?_
  exact w_X11_real_b68 (fin := fin) C h hK
noncomputable def s_X11_real_b67 (x1 : Int) (x2 : Int) (x3 : Int) (x4 : Int) (x5 : Int) (t0 : Nat) (μ : Me) : Option (Int × Me) :=
  s_X11_real_b68 x1 x2 x3 x4 x5 0 t0 μ
theorem w_X11_real_b67 {Z : Zt} {fin : Int × Me} {w : (Int × Me)} (C : CX Z yX11_real cX11_real (some .int) 3 7) {x1 : Int} {x2 : Int} {x3 : Int} {x4 : Int} {x5 : Int} {t0 : Nat} {μ : Me} (h : s_X11_real_b67 x1 x2 x3 x4 x5 t0 μ = some w) (hK : (fun r : Int × Me => r = fin) w) : WL Z (QN Z (some (vI fin.1)) fin.2) μ 67 [(1, vI x1), (2, vI x2), (3, vI x3), (4, vI x4), (5, vI x5)] [vO t0] := by
  unfold s_X11_real_b67 at h
  refine r_iconst C dX11_real_67 ?_
  exact w_X11_real_b68 (fin := fin) C h hK
noncomputable def s_X11_real_b47 (a0 : Nat) (x1 : Int) (x2 : Int) (x3 : Int) (x4 : Int) (x5 : Int) (t0 : Int) (μ : Me) : Option (Int × Me) :=
  (if w32 t0 = 0 then
  s_X11_real_b63 x1 x2 x3 x4 x5 a0 μ
  else
  (if w32 x1 = 0 then
  (if w32 x2 = 0 then
  s_X11_real_b63 x1 x2 x3 x4 x5 a0 μ
  else
  s_X11_real_b67 x1 x2 x3 x4 x5 a0 μ)
  else
  s_X11_real_b67 x1 x2 x3 x4 x5 a0 μ))
theorem w_X11_real_b47 {Z : Zt} {fin : Int × Me} {w : (Int × Me)} (C : CX Z yX11_real cX11_real (some .int) 3 7) {a0 : Nat} {x1 : Int} {x2 : Int} {x3 : Int} {x4 : Int} {x5 : Int} {t0 : Int} {μ : Me} (h : s_X11_real_b47 a0 x1 x2 x3 x4 x5 t0 μ = some w) (hK : (fun r : Int × Me => r = fin) w) : WL Z (QN Z (some (vI fin.1)) fin.2) μ 47 [(0, vO a0), (1, vI x1), (2, vI x2), (3, vI x3), (4, vI x4), (5, vI x5)] [vI t0] := by
  unfold s_X11_real_b47 at h
  refine r_istore C [(6, vI t0), (0, vO a0), (1, vI x1), (2, vI x2), (3, vI x3), (4, vI x4), (5, vI x5)] dX11_real_47 (by decide) rfl ?_
  refine r_aload_n C 1 dX11_real_49 rfl rfl ?_
  refine r_iload C 0 dX11_real_50 rfl ?_
  refine r_if_eq C dX11_real_52 (tgt := 63) (by decide) (fun c4 => ?_) (fun c4 => ?_)
  · have h := it_ h c4
    refine r_sub [2, 3, 4, 5, 6] rfl ?_
    exact w_X11_real_b63 (fin := fin) C h hK
  · have h := ie_ h c4
    refine r_iload_n C 2 dX11_real_55 rfl rfl ?_
    refine r_if_ne C dX11_real_56 (tgt := 67) (by decide) (fun c11 => ?_) (fun c11 => ?_)
    · have h := ie_ h c11
      refine r_sub [2, 3, 4, 5, 6] rfl ?_
      exact w_X11_real_b67 (fin := fin) C h hK
    · have h := it_ h c11
      refine r_iload_n C 3 dX11_real_59 rfl rfl ?_
      refine r_if_ne C dX11_real_60 (tgt := 67) (by decide) (fun c12 => ?_) (fun c12 => ?_)
      · have h := ie_ h c12
        refine r_sub [2, 3, 4, 5, 6] rfl ?_
        exact w_X11_real_b67 (fin := fin) C h hK
      · have h := it_ h c12
        refine r_sub [2, 3, 4, 5, 6] rfl ?_
        exact w_X11_real_b63 (fin := fin) C h hK
noncomputable def s_X11_real_b46 (a0 : Nat) (x1 : Int) (x2 : Int) (x3 : Int) (x4 : Int) (x5 : Int)  (μ : Me) : Option (Int × Me) :=
  s_X11_real_b47 a0 x1 x2 x3 x4 x5 0 μ
theorem w_X11_real_b46 {Z : Zt} {fin : Int × Me} {w : (Int × Me)} (C : CX Z yX11_real cX11_real (some .int) 3 7) {a0 : Nat} {x1 : Int} {x2 : Int} {x3 : Int} {x4 : Int} {x5 : Int}  {μ : Me} (h : s_X11_real_b46 a0 x1 x2 x3 x4 x5 μ = some w) (hK : (fun r : Int × Me => r = fin) w) : WL Z (QN Z (some (vI fin.1)) fin.2) μ 46 [(0, vO a0), (1, vI x1), (2, vI x2), (3, vI x3), (4, vI x4), (5, vI x5)] [] := by
  unfold s_X11_real_b46 at h
  refine r_iconst C dX11_real_46 ?_
  exact w_X11_real_b47 (fin := fin) C h hK
noncomputable def s_X11_real (a0 : Nat) (x1 : Int) (x2 : Int) (x3 : Int) (x4 : Int) (x5 : Int) (μ : Me) : Option (Int × Me) :=
  (pI μ 9 a0 0 0).bind fun m1 =>
  (s_X11_isThirty x1 m1).bind fun q2 =>
  (if w32 q2.1 = 0 then
  s_X11_real_b46 a0 x1 x2 x3 x4 x5 q2.2
  else
  (s_X11_isThirty x2 q2.2).bind fun q13 =>
  (if w32 q13.1 = 0 then
  s_X11_real_b46 a0 x1 x2 x3 x4 x5 q13.2
  else
  (s_X11_isThirty x3 q13.2).bind fun q15 =>
  (if w32 q15.1 = 0 then
  s_X11_real_b46 a0 x1 x2 x3 x4 x5 q15.2
  else
  (s_X11_isThirty x4 q15.2).bind fun q17 =>
  (if w32 q17.1 = 0 then
  s_X11_real_b46 a0 x1 x2 x3 x4 x5 q17.2
  else
  (s_X11_isThirty x5 q17.2).bind fun q19 =>
  (if w32 q19.1 = 0 then
  s_X11_real_b46 a0 x1 x2 x3 x4 x5 q19.2
  else
  s_X11_real_b47 a0 x1 x2 x3 x4 x5 1 q19.2)))))
theorem w_X11_real {Z : Zt} {fin : Int × Me} {w : Int × Me} (C : CX Z yX11_real cX11_real (some .int) 3 7) {a0 : Nat} {x1 : Int} {x2 : Int} {x3 : Int} {x4 : Int} {x5 : Int} {μ : Me} (h : s_X11_real a0 x1 x2 x3 x4 x5 μ = some w) (hK : w = fin) : WL Z (QN Z (some (vI fin.1)) fin.2) μ 0 [(0, vO a0), (1, vI x1), (2, vI x2), (3, vI x3), (4, vI x4), (5, vI x5)] [] := by
  unfold s_X11_real at h
  refine r_aload_n C 0 dX11_real_0 rfl rfl ?_
  refine r_iconst C dX11_real_1 ?_
  obtain ⟨m1, em1, h⟩ := bs h
  refine r_putI C (c := 9) (r := (RX11, TX11, 38)) rfl 0 (by decide) rfl ⟨rfl, rfl⟩ rfl em1 q1313 dX11_real_2 ?_
  refine r_iload_n C 1 dX11_real_5 rfl rfl ?_
  obtain ⟨q2, eq2, h⟩ := bs h
  refine r_callS C (As := [vI x1]) (rest := []) (st1 := [vI q2.1]) (v := some (vI q2.1)) (m_X11_isThirty C.tr eq2) (lw_S q1958 q1959 q133 q1960) hdX11_isThirty rfl rfl (Nat.le_of_ble_eq_true rfl) ⟨by decide, by decide⟩ dX11_real_6 rfl ?_
  refine r_if_eq C dX11_real_9 (tgt := 46) (by decide) (fun c3 => ?_) (fun c3 => ?_)
  · have h := it_ h c3
    exact w_X11_real_b46 (fin := fin) C h hK
  · have h := ie_ h c3
    refine r_iload_n C 2 dX11_real_12 rfl rfl ?_
    obtain ⟨q13, eq13, h⟩ := bs h
    refine r_callS C (As := [vI x2]) (rest := []) (st1 := [vI q13.1]) (v := some (vI q13.1)) (m_X11_isThirty C.tr eq13) (lw_S q1958 q1959 q133 q1960) hdX11_isThirty rfl rfl (Nat.le_of_ble_eq_true rfl) ⟨by decide, by decide⟩ dX11_real_13 rfl ?_
    refine r_if_eq C dX11_real_16 (tgt := 46) (by decide) (fun c14 => ?_) (fun c14 => ?_)
    · have h := it_ h c14
      exact w_X11_real_b46 (fin := fin) C h hK
    · have h := ie_ h c14
      refine r_iload_n C 3 dX11_real_19 rfl rfl ?_
      obtain ⟨q15, eq15, h⟩ := bs h
      refine r_callS C (As := [vI x3]) (rest := []) (st1 := [vI q15.1]) (v := some (vI q15.1)) (m_X11_isThirty C.tr eq15) (lw_S q1958 q1959 q133 q1960) hdX11_isThirty rfl rfl (Nat.le_of_ble_eq_true rfl) ⟨by decide, by decide⟩ dX11_real_20 rfl ?_
      refine r_if_eq C dX11_real_23 (tgt := 46) (by decide) (fun c16 => ?_) (fun c16 => ?_)
      · have h := it_ h c16
        exact w_X11_real_b46 (fin := fin) C h hK
      · have h := ie_ h c16
        refine r_iload C 4 dX11_real_26 rfl ?_
        obtain ⟨q17, eq17, h⟩ := bs h
        refine r_callS C (As := [vI x4]) (rest := []) (st1 := [vI q17.1]) (v := some (vI q17.1)) (m_X11_isThirty C.tr eq17) (lw_S q1958 q1959 q133 q1960) hdX11_isThirty rfl rfl (Nat.le_of_ble_eq_true rfl) ⟨by decide, by decide⟩ dX11_real_28 rfl ?_
        refine r_if_eq C dX11_real_31 (tgt := 46) (by decide) (fun c18 => ?_) (fun c18 => ?_)
        · have h := it_ h c18
          exact w_X11_real_b46 (fin := fin) C h hK
        · have h := ie_ h c18
          refine r_iload C 5 dX11_real_34 rfl ?_
          obtain ⟨q19, eq19, h⟩ := bs h
          refine r_callS C (As := [vI x5]) (rest := []) (st1 := [vI q19.1]) (v := some (vI q19.1)) (m_X11_isThirty C.tr eq19) (lw_S q1958 q1959 q133 q1960) hdX11_isThirty rfl rfl (Nat.le_of_ble_eq_true rfl) ⟨by decide, by decide⟩ dX11_real_36 rfl ?_
          refine r_if_eq C dX11_real_39 (tgt := 46) (by decide) (fun c20 => ?_) (fun c20 => ?_)
          · have h := it_ h c20
            exact w_X11_real_b46 (fin := fin) C h hK
          · have h := ie_ h c20
            refine r_iconst C dX11_real_42 ?_
            refine r_goto C dX11_real_43 (tgt := 47) (by decide) ?_
            exact w_X11_real_b47 (fin := fin) C h hK
theorem hdX11_real : zhd yX11_real 5 := by decide +kernel
theorem m_X11_real {l : Launch} {D : va_G} {b0 : Nat} (hl : l.stackTraces = false) {a0 : Nat} {x1 : Int} {x2 : Int} {x3 : Int} {x4 : Int} {x5 : Int} {μ : Me} {w : Int × Me} (h : s_X11_real a0 x1 x2 x3 x4 x5 μ = some w) : MN l D b0 yX11_real (ws_ yX11_real cX11_real 7 (some .int)) 3 [vO a0, vI x1, vI x2, vI x3, vI x4, vI x5] μ (some (vI w.1)) w.2 :=
  MN.of hl (by decide +kernel) (Nat.le_of_ble_eq_true rfl) (fun Z C _ _ => w_X11_real C h rfl)
noncomputable def s_X11_stock_l94_st (a0 : Nat) (x2 : Int) (x3 : Int) (μ : Me) : Option ((Int × Int × Me) ⊕ (Int × Me)) :=
  (gR μ 9 a0 1).bind fun v20 =>
  (aI μ 101 v20 1).bind fun v21 =>
  (if w32 v21 ≤ w32 x3 then
  some (.inr (x2, μ))
  else
  (ck μ 9 a0).bind fun _ =>
  (s_X11_takes a0 40 x3 μ).bind fun q23 =>
  (ck q23 9 a0).bind fun _ =>
  (s_X11_isNought a0 40 q23).bind fun q25 =>
  (if w32 q25.1 = 0 then
  some (.inl ((x2 + 0), (x3 + 1), q25.2))
  else
  some (.inl ((x2 + 1), (x3 + 1), q25.2))))
theorem w_X11_stock_l94_st {Z : Zt} {fin : Int × Me} {w : ((Int × Int × Me) ⊕ (Int × Me))} (C : CX Z yX11_stock cX11_stock (some .int) 4 4) {a0 : Nat} {x2 : Int} {x3 : Int} {μ : Me} (h : s_X11_stock_l94_st a0 x2 x3 μ = some w) (hK : (Sum.elim (fun s : Int × Int × Me => WL Z (QN Z (some (vI fin.1)) fin.2) s.2.2 94 [(0, vO a0), (2, vI s.1), (3, vI s.2.1)] []) (fun r : Int × Me => r = fin)) w) : WL Z (QN Z (some (vI fin.1)) fin.2) μ 94 [(0, vO a0), (2, vI x2), (3, vI x3)] [] := by
  unfold s_X11_stock_l94_st at h
  refine r_iload_n C 2 dX11_stock_94 rfl rfl ?_
  refine r_aload_n C 0 dX11_stock_95 rfl rfl ?_
  obtain ⟨v20, ev20, h⟩ := bs h
  refine r_getR C (c := 9) (r := (RX11, TX11, 38)) rfl 1 (by decide) rfl ev20 q1314 dX11_stock_96 ?_
  refine r_iconst C dX11_stock_99 ?_
  obtain ⟨v21, ev21, h⟩ := bs h
  refine r_iald C ev21 dX11_stock_100 ?_
  refine r_icmp_ge C dX11_stock_101 (tgt := 134) (by decide) (fun c22 => ?_) (fun c22 => ?_)
  · have h := it_ h c22
    refine r_iload_n C 1 dX11_stock_134 rfl rfl ?_
    cases h
    exact r_iret C hK dX11_stock_135
  · have h := ie_ h c22
    refine r_aload_n C 0 dX11_stock_104 rfl rfl ?_
    refine r_bipush C dX11_stock_105 (by decide) ?_
    refine r_iload_n C 2 dX11_stock_107 rfl rfl ?_
    obtain ⟨u24, eu24, h⟩ := bs h
    obtain ⟨q23, eq23, h⟩ := bs h
    refine r_callV C (As := [vI 40, vI x3]) (b := a0) (rest := []) (st1 := []) (v := none) (r := (RX11, TX11, 38)) (ci := 9) rfl eu24 (m_X11_takes C.tr eq23) (lw_V q1617 q1619 qs67 q133 q1620) rfl hdX11_takes rfl rfl (Nat.le_of_ble_eq_true rfl) ⟨by decide, by decide⟩ dX11_stock_108 rfl ?_
    refine r_iload_n C 1 dX11_stock_111 rfl rfl ?_
    refine r_aload_n C 0 dX11_stock_112 rfl rfl ?_
    refine r_bipush C dX11_stock_113 (by decide) ?_
    obtain ⟨u26, eu26, h⟩ := bs h
    obtain ⟨q25, eq25, h⟩ := bs h
    refine r_callV C (As := [vI 40]) (b := a0) (rest := [vI x2]) (st1 := [vI q25.1, vI x2]) (v := some (vI q25.1)) (r := (RX11, TX11, 38)) (ci := 9) rfl eu26 (m_X11_isNought C.tr eq25) (lw_V q1787 q1789 qs96 q133 q1790) rfl hdX11_isNought rfl rfl (Nat.le_of_ble_eq_true rfl) ⟨by decide, by decide⟩ dX11_stock_115 rfl ?_
    refine r_if_eq C dX11_stock_118 (tgt := 125) (by decide) (fun c27 => ?_) (fun c27 => ?_)
    · have h := it_ h c27
      refine r_iconst C dX11_stock_125 ?_
      refine r_iadd C dX11_stock_126 ?_
      refine r_istore_n C [(2, vI (x2 + 0)), (0, vO a0), (3, vI x3)] dX11_stock_127 rfl (by decide) rfl ?_
      refine r_iinc C 2 [(3, vI (x3 + 1)), (2, vI (x2 + 0)), (0, vO a0)] dX11_stock_128 rfl (by decide) rfl ?_
      refine r_goto C dX11_stock_131 (tgt := 94) (by decide) ?_
      cases h
      refine r_sub [2, 1, 0] rfl ?_
      exact hK
    · have h := ie_ h c27
      refine r_iconst C dX11_stock_121 ?_
      refine r_goto C dX11_stock_122 (tgt := 126) (by decide) ?_
      refine r_iadd C dX11_stock_126 ?_
      refine r_istore_n C [(2, vI (x2 + 1)), (0, vO a0), (3, vI x3)] dX11_stock_127 rfl (by decide) rfl ?_
      refine r_iinc C 2 [(3, vI (x3 + 1)), (2, vI (x2 + 1)), (0, vO a0)] dX11_stock_128 rfl (by decide) rfl ?_
      refine r_goto C dX11_stock_131 (tgt := 94) (by decide) ?_
      cases h
      refine r_sub [2, 1, 0] rfl ?_
      exact hK
noncomputable def s_X11_stock_l94 (a0 : Nat) (x2 : Int) (x3 : Int) (μ : Me) : Option (Int × Me) :=
  whileO (fun s : Int × Int × Me => s_X11_stock_l94_st a0 s.1 s.2.1 s.2.2) (x2, x3, μ)
theorem e_X11_stock_l94 (a0 : Nat) (x2 : Int) (x3 : Int) (μ : Me) : s_X11_stock_l94 a0 x2 x3 μ = (s_X11_stock_l94_st a0 x2 x3 μ).bind fun x => x.elim (fun s : Int × Int × Me => s_X11_stock_l94 a0 s.1 s.2.1 s.2.2) some := whileO_eq _ _
theorem w_X11_stock_l94 {Z : Zt} {fin : Int × Me} {w : (Int × Me)} (C : CX Z yX11_stock cX11_stock (some .int) 4 4) {a0 : Nat} {x2 : Int} {x3 : Int} {μ : Me} (h : s_X11_stock_l94 a0 x2 x3 μ = some w) (hK : (fun r : Int × Me => r = fin) w) : WL Z (QN Z (some (vI fin.1)) fin.2) μ 94 [(0, vO a0), (2, vI x2), (3, vI x3)] [] := by
  refine whileO_walk (w := w) (fun s : Int × Int × Me => WL Z (QN Z (some (vI fin.1)) fin.2) s.2.2 94 [(0, vO a0), (2, vI s.1), (3, vI s.2.1)] []) (fun s v h2 hi hr => ?_) (x2, x3, μ) h
  refine w_X11_stock_l94_st (fin := fin) C h2 ?_
  cases v with
  | inl s2 => exact hi s2 rfl
  | inr r => have e := hr r rfl; subst e; exact hK
noncomputable def s_X11_stock (a0 : Nat) (x1 : Int) (μ : Me) : Option (Int × Me) :=
  (pI μ 9 a0 0 0).bind fun m1 =>
  (if w32 x1 = 0 then
  (ck m1 9 a0).bind fun _ =>
  (s_X11_p a0  m1).bind fun q2 =>
  some (q2.1, q2.2)
  else
  if w32 x1 = 1 then
  (gR m1 9 a0 1).bind fun v5 =>
  (aI m1 101 v5 1).bind fun v6 =>
  some (v6, m1)
  else
  if w32 x1 = 2 then
  (gR m1 9 a0 1).bind fun v8 =>
  (aI m1 101 v8 2).bind fun v9 =>
  some (v9, m1)
  else
  if w32 x1 = 3 then
  (gR m1 9 a0 1).bind fun v11 =>
  (aI m1 101 v11 3).bind fun v12 =>
  some (v12, m1)
  else
  if w32 x1 = 4 then
  (gR m1 9 a0 1).bind fun v14 =>
  (aI m1 101 v14 4).bind fun v15 =>
  some (v15, m1)
  else
  if w32 x1 = 5 then
  (gR m1 9 a0 1).bind fun v17 =>
  (aI m1 101 v17 5).bind fun v18 =>
  some (v18, m1)
  else
  if w32 x1 = 6 then
  s_X11_stock_l94 a0 0 0 m1
  else
  some ((-1), m1))
theorem w_X11_stock {Z : Zt} {fin : Int × Me} {w : Int × Me} (C : CX Z yX11_stock cX11_stock (some .int) 4 4) {a0 : Nat} {x1 : Int} {μ : Me} (h : s_X11_stock a0 x1 μ = some w) (hK : w = fin) : WL Z (QN Z (some (vI fin.1)) fin.2) μ 0 [(0, vO a0), (1, vI x1)] [] := by
  unfold s_X11_stock at h
  refine r_aload_n C 0 dX11_stock_0 rfl rfl ?_
  refine r_iconst C dX11_stock_1 ?_
  obtain ⟨m1, em1, h⟩ := bs h
  refine r_putI C (c := 9) (r := (RX11, TX11, 38)) rfl 0 (by decide) rfl ⟨rfl, rfl⟩ rfl em1 q1313 dX11_stock_2 ?_
  refine r_iconst C dX11_stock_5 ?_
  refine r_istore_n C [(2, vI 0), (0, vO a0), (1, vI x1)] dX11_stock_6 rfl (by decide) rfl ?_
  refine r_iload_n C 2 dX11_stock_7 rfl rfl ?_
  by_cases c4 : w32 x1 = 0
  · have h := it_ h c4
    refine r_tsIn (tgt := 52) C dX11_stock_8 c4 (by decide) (by decide) rfl (by decide) ?_
    refine r_aload_n C 1 dX11_stock_52 rfl rfl ?_
    obtain ⟨u3, eu3, h⟩ := bs h
    obtain ⟨q2, eq2, h⟩ := bs h
    refine r_callV C (As := []) (b := a0) (rest := []) (st1 := [vI q2.1]) (v := some (vI q2.1)) (r := (RX11, TX11, 38)) (ci := 9) rfl eu3 (m_X11_p C.tr eq2) (lw_V q1522 q1524 qs51 q133 q1525) rfl hdX11_p rfl rfl (Nat.le_of_ble_eq_true rfl) ⟨by decide, by decide⟩ dX11_stock_53 rfl ?_
    cases h
    exact r_iret C hK dX11_stock_56
  have h := ie_ h c4
  by_cases c7 : w32 x1 = 1
  · have h := it_ h c7
    refine r_tsIn (tgt := 57) C dX11_stock_8 c7 (by decide) (by decide) rfl (by decide) ?_
    refine r_aload_n C 1 dX11_stock_57 rfl rfl ?_
    obtain ⟨v5, ev5, h⟩ := bs h
    refine r_getR C (c := 9) (r := (RX11, TX11, 38)) rfl 1 (by decide) rfl ev5 q1314 dX11_stock_58 ?_
    refine r_iconst C dX11_stock_61 ?_
    obtain ⟨v6, ev6, h⟩ := bs h
    refine r_iald C ev6 dX11_stock_62 ?_
    cases h
    exact r_iret C hK dX11_stock_63
  have h := ie_ h c7
  by_cases c10 : w32 x1 = 2
  · have h := it_ h c10
    refine r_tsIn (tgt := 64) C dX11_stock_8 c10 (by decide) (by decide) rfl (by decide) ?_
    refine r_aload_n C 1 dX11_stock_64 rfl rfl ?_
    obtain ⟨v8, ev8, h⟩ := bs h
    refine r_getR C (c := 9) (r := (RX11, TX11, 38)) rfl 1 (by decide) rfl ev8 q1314 dX11_stock_65 ?_
    refine r_iconst C dX11_stock_68 ?_
    obtain ⟨v9, ev9, h⟩ := bs h
    refine r_iald C ev9 dX11_stock_69 ?_
    cases h
    exact r_iret C hK dX11_stock_70
  have h := ie_ h c10
  by_cases c13 : w32 x1 = 3
  · have h := it_ h c13
    refine r_tsIn (tgt := 71) C dX11_stock_8 c13 (by decide) (by decide) rfl (by decide) ?_
    refine r_aload_n C 1 dX11_stock_71 rfl rfl ?_
    obtain ⟨v11, ev11, h⟩ := bs h
    refine r_getR C (c := 9) (r := (RX11, TX11, 38)) rfl 1 (by decide) rfl ev11 q1314 dX11_stock_72 ?_
    refine r_iconst C dX11_stock_75 ?_
    obtain ⟨v12, ev12, h⟩ := bs h
    refine r_iald C ev12 dX11_stock_76 ?_
    cases h
    exact r_iret C hK dX11_stock_77
  have h := ie_ h c13
  by_cases c16 : w32 x1 = 4
  · have h := it_ h c16
    refine r_tsIn (tgt := 78) C dX11_stock_8 c16 (by decide) (by decide) rfl (by decide) ?_
    refine r_aload_n C 1 dX11_stock_78 rfl rfl ?_
    obtain ⟨v14, ev14, h⟩ := bs h
    refine r_getR C (c := 9) (r := (RX11, TX11, 38)) rfl 1 (by decide) rfl ev14 q1314 dX11_stock_79 ?_
    refine r_iconst C dX11_stock_82 ?_
    obtain ⟨v15, ev15, h⟩ := bs h
    refine r_iald C ev15 dX11_stock_83 ?_
    cases h
    exact r_iret C hK dX11_stock_84
  have h := ie_ h c16
  by_cases c19 : w32 x1 = 5
  · have h := it_ h c19
    refine r_tsIn (tgt := 85) C dX11_stock_8 c19 (by decide) (by decide) rfl (by decide) ?_
    refine r_aload_n C 1 dX11_stock_85 rfl rfl ?_
    obtain ⟨v17, ev17, h⟩ := bs h
    refine r_getR C (c := 9) (r := (RX11, TX11, 38)) rfl 1 (by decide) rfl ev17 q1314 dX11_stock_86 ?_
    refine r_iconst C dX11_stock_89 ?_
    obtain ⟨v18, ev18, h⟩ := bs h
    refine r_iald C ev18 dX11_stock_90 ?_
    cases h
    exact r_iret C hK dX11_stock_91
  have h := ie_ h c19
  by_cases c28 : w32 x1 = 6
  · have h := it_ h c28
    refine r_tsIn (tgt := 92) C dX11_stock_8 c28 (by decide) (by decide) rfl (by decide) ?_
    refine r_iconst C dX11_stock_92 ?_
    refine r_istore_n C [(3, vI 0), (2, vI 0), (0, vO a0), (1, vI x1)] dX11_stock_93 rfl (by decide) rfl ?_
    refine r_sub [2, 1, 0] rfl ?_
    exact w_X11_stock_l94 (fin := fin) C h hK
  have h := ie_ h c28
  refine r_tsOut (tgt := 136) C dX11_stock_8 (by omega) (by decide) ?_
  refine r_iconst C dX11_stock_136 ?_
  cases h
  exact r_iret C hK dX11_stock_137
theorem hdX11_stock : zhd yX11_stock 1 := by decide +kernel
theorem m_X11_stock {l : Launch} {D : va_G} {b0 : Nat} (hl : l.stackTraces = false) {a0 : Nat} {x1 : Int} {μ : Me} {w : Int × Me} (h : s_X11_stock a0 x1 μ = some w) : MN l D b0 yX11_stock (ws_ yX11_stock cX11_stock 4 (some .int)) 4 [vO a0, vI x1] μ (some (vI w.1)) w.2 :=
  MN.of hl (by decide +kernel) (Nat.le_of_ble_eq_true rfl) (fun Z C _ _ => w_X11_stock C h rfl)
