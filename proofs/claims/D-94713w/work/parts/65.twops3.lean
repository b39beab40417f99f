/-! the twin: undo, redo, the image, the tape, field, form, stock -/
set_option maxRecDepth 100000
theorem bv_and_nn {n : Nat} (a b : BitVec n) (hb : 0 ≤ b.toInt) : 0 ≤ (a &&& b).toInt := by
  have h := BitVec.msb_and (x := a) (y := b)
  rw [BitVec.msb_eq_toInt, BitVec.msb_eq_toInt, BitVec.msb_eq_toInt] at h
  by_cases h1 : (a &&& b).toInt < 0 <;> by_cases h2 : a.toInt < 0 <;> by_cases h3 : b.toInt < 0 <;> simp [h1, h2, h3] at h ⊢ <;> omega
theorem anI_b (a : Int) {b : Int} (h0 : 0 ≤ b) (h1 : b < 2147483648) : 0 ≤ anI a b ∧ anI a b < 2147483648 := by
  have h2 : (Int32.ofInt b).toBitVec.toInt = b := (w32_eq b).trans (w32_id (by omega) h1)
  refine ⟨bv_and_nn (Int32.ofInt a).toBitVec (Int32.ofInt b).toBitVec (by omega), ?_⟩
  have := Int32.toInt_lt (Int32.ofInt a &&& Int32.ofInt b)
  unfold anI
  omega
def undW (W : Int → Int) : Int → Int := upz (upz W 4 (W 4 - 1)) 5 (W 5 + 1)
def redW (W : Int → Int) : Int → Int := upz (upz W 4 (W 4 + 1)) 5 (W 5 - 1)
/-- so much is taped -/
def tpd (I : Nat → Int → Int) (m : Nat) (n : Int) : Nat → Int → Int := up1 I m (upz (I m) 11 n)
theorem HK.tpd {m : Nat} {I I' : Nat → Int → Int} (h : HK m I I') (n : Int) : HK m (tpd I m n) (tpd I' m n) := by
  unfold Jvm.Pilot.CLetterFormsLaw_law_r4541_621673.tpd
  refine ⟨fun a x y => ?_, fun k hk => ?_⟩
  · rw [up1_n _ _ x, up1_n _ _ x, h.1 a x y]
  · rw [up1_s, up1_s]
    unfold upz
    split
    · rfl
    · exact h.2 k hk
theorem HK.eq {m : Nat} {I I' : Nat → Int → Int} (h1 : ∀ a : Nat, a ≠ m → (a < m + 3 ∨ m + 15 < a ∨ a = m + 5) → I' a = I a) (h2 : I' m 0 = I m 0) (h3 : I' m 3 = I m 3) (h4 : I' m 11 = I m 11) (h5 : I' m 17 = I m 17) : HK m I I' :=
  ⟨h1, fun k hk => by rcases hk with rfl | rfl | rfl | rfl <;> assumption⟩
section TY
variable {sh : Sh} {I J : Nat → Int → Int} {m : Nat} {p : Int}
theorem t_again0 (T : TL sh m) (hW : WI (I (m + 1))) {a : Int} (h0 : 0 ≤ a) (h1 : a < I (m + 1) 4 + I (m + 1) 5) :
    ∃ I', s_X11_again m a 0 (sh, I, J) = some (aA (I (m + 1)) a 0, (sh, I', J)) ∧ HK m (up1 I (m + 1) (mixF (I (m + 1)) (aA (I (m + 1)) a 0) (aA (I (m + 1)) a 1) (aA (I (m + 1)) a 2) (aA (I (m + 1)) a 3) (aA (I (m + 1)) a 4))) I' := by
  obtain ⟨W, hw⟩ : ∃ W, I (m + 1) = W := ⟨_, rfl⟩
  rw [hw] at hW h1 ⊢
  have hc := hW.c4
  have hc1 := hW.c1
  obtain ⟨⟨b0, b1⟩, hT⟩ := hW.a h0 h1
  obtain ⟨I2, hI2⟩ : ∃ I2, tkT I m (aA W a 1) (aA W a 2) (aA W a 3) (aA W a 4) = I2 := ⟨_, rfl⟩
  have hk2 : HK m I I2 := by rw [← hI2]; exact tkT_hk
  have hTB := tkT_tb (I := I) (m := m) hT
  rw [hI2] at hTB
  have hw2 : I2 (m + 1) = W := by rw [hk2.w, hw]
  have e1 := t_takesTable (J := J) T (aA W a 1) (aA W a 2) (aA W a 3) (aA W a 4) (I := I)
  rw [hI2] at e1
  have g1 : W (3406 + 5 * a + 1) = aA W a 1 := rfl
  have g2 : W (3406 + 5 * a + 2) = aA W a 2 := rfl
  have g3 : W (3406 + 5 * a + 3) = aA W a 3 := rfl
  have g4 : W (3406 + 5 * a + 4) = aA W a 4 := rfl
  have g0 : W (3406 + 5 * a) = aA W a 0 := by unfold aA; rw [Int.add_zero]
  obtain ⟨I3, e3, k3⟩ := t_mixesForm (J := J) T (p := W 0) (f := aA W a 0) (by rw [hw2]) hW.pp (by omega) (by rw [hw2]; exact hW.f b0 b1) hTB
  rw [hw2] at k3
  have h3 : I3 (m + 1) (3406 + 5 * a) = aA W a 0 := by
    have hF := (hW.f b0 b1).1
    rw [k3.w, up1_s]
    unfold mixF
    rw [wr_out (by omega), g0]
  unfold s_X11_again
  simp (disch := omega) only [bsome, t_ck T, t_gI T, t_pI T, t_gJ T, t_pJ T, tR_world T, tA_world T, tU_world T, hw, g1, g2, g3, g4, e1, w32_id, if_pos]
  unfold s_X11_again_b52
  simp (disch := omega) only [bsome, t_ck T, t_gI T, t_pI T, t_gJ T, t_pJ T, tR_world T, tA_world T, tU_world T, hw2, g0, e3, h3]
  exact ⟨_, rfl, (hk2.up _).trans k3⟩
theorem t_again1 (T : TL sh m) (hW : WI (I (m + 1))) {a : Int} (h0 : 0 ≤ a) (h1 : a < I (m + 1) 4 + I (m + 1) 5) {v : Int × Int × Int × Int} (hv : ivT (I (m + 1) 0) (aA (I (m + 1)) a 1) (aA (I (m + 1)) a 2) (aA (I (m + 1)) a 3) (aA (I (m + 1)) a 4) = v) :
    ∃ I', s_X11_again m a 1 (sh, I, J) = some (aA (I (m + 1)) a 0, (sh, I', J)) ∧ HK m (up1 I (m + 1) (mixF (I (m + 1)) (aA (I (m + 1)) a 0) v.1 v.2.1 v.2.2.1 v.2.2.2)) I' := by
  obtain ⟨W, hw⟩ : ∃ W, I (m + 1) = W := ⟨_, rfl⟩
  rw [hw] at hW h1 hv ⊢
  have hc := hW.c4
  have hc1 := hW.c1
  obtain ⟨⟨b0, b1⟩, hT⟩ := hW.a h0 h1
  obtain ⟨I2, hI2⟩ : ∃ I2, tkT I m (aA W a 1) (aA W a 2) (aA W a 3) (aA W a 4) = I2 := ⟨_, rfl⟩
  have hk2 : HK m I I2 := by rw [← hI2]; exact tkT_hk
  have hTB := tkT_tb (I := I) (m := m) hT
  rw [hI2] at hTB
  have hw2 : I2 (m + 1) = W := by rw [hk2.w, hw]
  have e1 := t_takesTable (J := J) T (aA W a 1) (aA W a 2) (aA W a 3) (aA W a 4) (I := I)
  rw [hI2] at e1
  have e2 := t_turnsBack (J := J) T (p := W 0) (by rw [hw2]) hW.pp hTB
  rw [hv] at e2
  obtain ⟨I4, hI4⟩ : ∃ I4, tkT I2 m v.1 v.2.1 v.2.2.1 v.2.2.2 = I4 := ⟨_, rfl⟩
  have hk4 : HK m I2 I4 := by rw [← hI4]; exact tkT_hk
  have hw4 : I4 (m + 1) = W := by rw [hk4.w, hw2]
  have hTB4 : TB I4 m (W 0) v.1 v.2.1 v.2.2.1 v.2.2.2 := by
    obtain ⟨z1, z2, z3, z4⟩ := tkT_6 (I := I2) (m := m) (a := v.1) (b := v.2.1) (c := v.2.2.1) (d := v.2.2.2)
    rw [hI4] at z1 z2 z3 z4
    have y1 : v.1 % W 0 = v.1 := by rw [← hv]; exact emod_emod_ _ _
    have y2 : v.2.1 % W 0 = v.2.1 := by rw [← hv]; exact emod_emod_ _ _
    have y3 : v.2.2.1 % W 0 = v.2.2.1 := by rw [← hv]; exact emod_emod_ _ _
    have y4 : v.2.2.2 % W 0 = v.2.2.2 := by rw [← hv]; exact emod_emod_ _ _
    exact ⟨by rw [z1, y1], by rw [z2, y2], by rw [z3, y3], by rw [z4, y4]⟩
  rw [hI4] at e2
  have g1 : W (3406 + 5 * a + 1) = aA W a 1 := rfl
  have g2 : W (3406 + 5 * a + 2) = aA W a 2 := rfl
  have g3 : W (3406 + 5 * a + 3) = aA W a 3 := rfl
  have g4 : W (3406 + 5 * a + 4) = aA W a 4 := rfl
  have g0 : W (3406 + 5 * a) = aA W a 0 := by unfold aA; rw [Int.add_zero]
  obtain ⟨I3, e3, k3⟩ := t_mixesForm (J := J) T (p := W 0) (f := aA W a 0) (by rw [hw4]) hW.pp (by omega) (by rw [hw4]; exact hW.f b0 b1) hTB4
  rw [hw4] at k3
  have h3 : I3 (m + 1) (3406 + 5 * a) = aA W a 0 := by
    have hF := (hW.f b0 b1).1
    rw [k3.w, up1_s]
    unfold mixF
    rw [wr_out (by omega), g0]
  unfold s_X11_again
  simp (disch := omega) only [bsome, t_ck T, t_gI T, t_pI T, t_gJ T, t_pJ T, tR_world T, tA_world T, tU_world T, hw, g1, g2, g3, g4, e1, w32_id, if_neg, e2]
  unfold s_X11_again_b52
  simp (disch := omega) only [bsome, t_ck T, t_gI T, t_pI T, t_gJ T, t_pJ T, tR_world T, tA_world T, tU_world T, hw4, g0, e3, h3]
  exact ⟨_, rfl, ((hk2.trans hk4).up _).trans k3⟩
theorem undW_o (W : Int → Int) {k : Int} (h : k ≠ 4 ∧ k ≠ 5) : undW W k = W k := by
  unfold undW
  rw [upz_n _ _ h.2, upz_n _ _ h.1]
theorem undW_4 (W : Int → Int) : undW W 4 = W 4 - 1 ∧ undW W 5 = W 5 + 1 := by
  unfold undW
  exact ⟨by rw [upz_n _ _ (by decide), upz_s], upz_s _ _ _⟩
theorem redW_o (W : Int → Int) {k : Int} (h : k ≠ 4 ∧ k ≠ 5) : redW W k = W k := by
  unfold redW
  rw [upz_n _ _ h.2, upz_n _ _ h.1]
theorem redW_4 (W : Int → Int) : redW W 4 = W 4 + 1 ∧ redW W 5 = W 5 - 1 := by
  unfold redW
  exact ⟨by rw [upz_n _ _ (by decide), upz_s], upz_s _ _ _⟩
theorem WI.mv {W W' : Int → Int} (h : WI W) (ho : ∀ k : Int, k ≠ 4 ∧ k ≠ 5 → W' k = W k) (h4 : 0 ≤ W' 4 ∧ 0 ≤ W' 5) (h5 : W' 4 + W' 5 = W 4 + W 5) : WI W' := by
  have hc := h.c4
  have e0 := ho 0 (by decide)
  have e1 := ho 1 (by decide)
  have e2 := ho 2 (by decide)
  have e3 := ho 3 (by decide)
  refine ⟨by rw [e0]; exact h.pp, by rw [e1]; exact h.c1, by rw [e2]; exact h.c2, by rw [e3]; exact h.c3, by omega, fun f f0 f1 => ?_, fun t t0 t1 => ?_, fun a a0 a1 => ?_⟩
  · rw [e1] at f1
    have h9 := h.f f0 f1
    unfold wF fD fC at h9 ⊢
    rw [ho _ (by omega), e0]
    exact ⟨h9.1, fun k x y => by rw [ho _ (by omega)]; exact h9.2 k x y⟩
  · rw [e2] at t1
    have h9 := h.t t0 t1
    unfold tT at h9 ⊢
    rw [e0, ho _ (by omega), ho _ (by omega), ho _ (by omega), ho _ (by omega)]
    exact h9
  · rw [h5] at a1
    have h9 := h.a a0 a1
    unfold aA at h9 ⊢
    rw [e0, e1, ho _ (by omega), ho _ (by omega), ho _ (by omega), ho _ (by omega), ho _ (by omega)]
    exact h9
theorem WI.und {W : Int → Int} (h : WI W) (h4 : W 4 ≠ 0) : WI (undW W) := by
  have hc := h.c4
  have := undW_4 W
  exact h.mv (fun k hk => undW_o W hk) (by omega) (by omega)
theorem WI.red {W : Int → Int} (h : WI W) (h5 : W 5 ≠ 0) : WI (redW W) := by
  have hc := h.c4
  have := redW_4 W
  exact h.mv (fun k hk => redW_o W hk) (by omega) (by omega)
theorem t_undo (T : TL sh m) (hW : WI (I (m + 1))) {v : Int × Int × Int × Int} (hv : ivT (I (m + 1) 0) (aA (I (m + 1)) (I (m + 1) 4 - 1) 1) (aA (I (m + 1)) (I (m + 1) 4 - 1) 2) (aA (I (m + 1)) (I (m + 1) 4 - 1) 3) (aA (I (m + 1)) (I (m + 1) 4 - 1) 4) = v) :
    (I (m + 1) 4 = 0 → QG (s_X11_undo m (sh, I, J)) sh I J m (-1)) ∧
    (I (m + 1) 4 ≠ 0 → QW (s_X11_undo m (sh, I, J)) sh I J m (aA (I (m + 1)) (I (m + 1) 4 - 1) 0) (mixF (undW (I (m + 1))) (aA (I (m + 1)) (I (m + 1) 4 - 1) 0) v.1 v.2.1 v.2.2.1 v.2.2.2)) := by
  obtain ⟨W, hw⟩ : ∃ W, I (m + 1) = W := ⟨_, rfl⟩
  rw [hw] at hW hv ⊢
  have hc := hW.c4
  have h0 : thr I m 0 (m + 1) = W := by rw [thr_n (by omega), hw]
  refine ⟨fun h => ?_, fun h => ?_⟩
  · unfold s_X11_undo
    simp (disch := omega) only [bsome, t_ck T, t_gI T, t_gJ T, tR_world T, tA_world T, tU_world T, t_thr T, h0, w32_id, if_pos]
    exact ⟨_, _, rfl, HK.refl, HJ.refl⟩
  · obtain ⟨u4, u5⟩ := undW_4 W
    have uo : ∀ k : Int, 0 ≤ k → aA (undW W) (W 4 - 1) k = aA W (W 4 - 1) k := fun k hk => undW_o W (by omega)
    obtain ⟨I1, hI1⟩ : ∃ I1, up1 (thr I m 0) (m + 1) (undW W) = I1 := ⟨_, rfl⟩
    have hw1 : I1 (m + 1) = undW W := by rw [← hI1, up1_s]
    obtain ⟨I2, e2, k2⟩ := t_again1 (I := I1) (J := J) T (a := W 4 - 1) (v := v) (by rw [hw1]; exact hW.und h) (by omega) (by rw [hw1]; omega) (by rw [hw1, undW_o W (by decide), uo 1 (by decide), uo 2 (by decide), uo 3 (by decide), uo 4 (by decide)]; exact hv)
    rw [hw1, uo 0 (by decide)] at e2 k2
    rw [← hI1, up1_up1] at k2
    have hu : upz (upz W 4 (W 4 - 1)) 5 (W 5 + 1) = undW W := rfl
    unfold s_X11_undo
    simp (disch := omega) only [bsome, t_ck T, t_gI T, t_gJ T, tR_world T, tA_world T, tU_world T, t_thr T, h0, w32_id, if_neg, up1_s, up1_up1, upz_n, upz_s, hu, hI1]
    rw [e2]
    exact ⟨_, _, rfl, k2, HJ.refl⟩
theorem t_redo (T : TL sh m) (hW : WI (I (m + 1))) :
    (I (m + 1) 5 = 0 → QG (s_X11_redo m (sh, I, J)) sh I J m (-1)) ∧
    (I (m + 1) 5 ≠ 0 → QW (s_X11_redo m (sh, I, J)) sh I J m (aA (I (m + 1)) (I (m + 1) 4) 0) (mixF (redW (I (m + 1))) (aA (I (m + 1)) (I (m + 1) 4) 0) (aA (I (m + 1)) (I (m + 1) 4) 1) (aA (I (m + 1)) (I (m + 1) 4) 2) (aA (I (m + 1)) (I (m + 1) 4) 3) (aA (I (m + 1)) (I (m + 1) 4) 4))) := by
  obtain ⟨W, hw⟩ : ∃ W, I (m + 1) = W := ⟨_, rfl⟩
  rw [hw] at hW ⊢
  have hc := hW.c4
  have h0 : thr I m 0 (m + 1) = W := by rw [thr_n (by omega), hw]
  refine ⟨fun h => ?_, fun h => ?_⟩
  · unfold s_X11_redo
    simp (disch := omega) only [bsome, t_ck T, t_gI T, t_gJ T, tR_world T, tA_world T, tU_world T, t_thr T, h0, w32_id, if_pos]
    exact ⟨_, _, rfl, HK.refl, HJ.refl⟩
  · obtain ⟨u4, u5⟩ := redW_4 W
    have uo : ∀ k : Int, 0 ≤ k → aA (redW W) (W 4) k = aA W (W 4) k := fun k hk => redW_o W (by omega)
    obtain ⟨I1, hI1⟩ : ∃ I1, up1 (thr I m 0) (m + 1) (redW W) = I1 := ⟨_, rfl⟩
    have hw1 : I1 (m + 1) = redW W := by rw [← hI1, up1_s]
    obtain ⟨I2, e2, k2⟩ := t_again0 (I := I1) (J := J) T (a := W 4) (by rw [hw1]; exact hW.red h) (by omega) (by rw [hw1]; omega)
    rw [hw1, uo 0 (by decide), uo 1 (by decide), uo 2 (by decide), uo 3 (by decide), uo 4 (by decide)] at k2
    rw [hw1, uo 0 (by decide)] at e2
    rw [← hI1, up1_up1] at k2
    have hu : upz (upz W 4 (W 4 + 1)) 5 (W 5 - 1) = redW W := rfl
    unfold s_X11_redo
    simp (disch := omega) only [bsome, t_ck T, t_gI T, t_gJ T, tR_world T, tA_world T, tU_world T, t_thr T, h0, w32_id, if_neg, up1_s, up1_up1, upz_n, upz_s, hu, hI1]
    rw [show W 4 + 1 - 1 = W 4 by omega, e2]
    exact ⟨_, _, rfl, k2, HJ.refl⟩
theorem t_image (T : TL sh m) : s_X11_image m (sh, I, J) = some (sh, up1 (up1 (thr I m 0) (m + 2) (wr (I (m + 2)) 0 3606 (fun i => I (m + 1) i))) m (upz (thr I m 0 m) 3 1), J) := by
  have h1 : thr I m 0 (m + 1) = I (m + 1) := thr_n (by omega)
  have h2 : thr I m 0 (m + 2) = I (m + 2) := thr_n (by omega)
  unfold s_X11_image
  simp only [t_thr T, bsome]
  unfold s_X11_image_l7
  refine arr_loop (f := fun s : Int × Me => s_X11_image_l7_st m s.1 s.2) (sh := sh) (I := thr I m 0) (J := J) (m + 2) 0 0 3606 (fun i => I (m + 1) i) ?_ ?_
  · intro i hi
    unfold s_X11_image_l7_st
    dsimp only
    have e1 : up1 (thr I m 0) (m + 2) (wr (thr I m 0 (m + 2)) 0 i (fun i => I (m + 1) i)) (m + 1) = I (m + 1) := by rw [up1_n _ _ (by omega), h1]
    simp (disch := omega) only [bsome, t_ck T, t_gI T, t_pI T, t_gJ T, t_pJ T, tR_world T, tA_world T, tU_world T, tR_image T, tA_image T, tU_image T, w32_id, if_neg, Int.zero_add, e1, up1_s, up1_up1]
  · unfold s_X11_image_l7_st s_X11_image_b32
    dsimp only
    simp (disch := omega) only [w32_id, if_pos, t_pI T, bsome]
    rw [h2, up1_n _ _ (show m ≠ m + 2 by omega)]
    rfl
theorem t_back (T : TL sh m) (hk : I m 3 = 0 ∨ I m 3 = 1) :
    (I m 3 = 0 → s_X11_back m (sh, I, J) = some (0, (sh, thr I m 0, J))) ∧
    (I m 3 = 1 → s_X11_back m (sh, I, J) = some (1, (sh, up1 (thr I m 0) (m + 1) (wr (I (m + 1)) 0 3606 (fun i => I (m + 2) i)), J))) := by
  have h1 : thr I m 0 (m + 1) = I (m + 1) := thr_n (by omega)
  have h2 : thr I m 0 (m + 2) = I (m + 2) := thr_n (by omega)
  have h3 : thr I m 0 m 3 = I m 3 := thr_k (by decide)
  refine ⟨fun h => ?_, fun h => ?_⟩
  · unfold s_X11_back
    simp (disch := omega) only [t_thr T, t_gI T, bsome, h3, w32_id, if_pos]
  · unfold s_X11_back
    simp (disch := omega) only [t_thr T, t_gI T, bsome, h3, w32_id, if_neg]
    unfold s_X11_back_l16
    refine arr_loop (f := fun s : Int × Me => s_X11_back_l16_st m s.1 s.2) (sh := sh) (I := thr I m 0) (J := J) (m + 1) 0 0 3606 (fun i => I (m + 2) i) ?_ ?_
    · intro i hi
      unfold s_X11_back_l16_st
      dsimp only
      have e1 : up1 (thr I m 0) (m + 1) (wr (thr I m 0 (m + 1)) 0 i (fun i => I (m + 2) i)) (m + 2) = I (m + 2) := by rw [up1_n _ _ (by omega), h2]
      simp (disch := omega) only [bsome, t_ck T, t_gI T, t_pI T, t_gJ T, t_pJ T, tR_world T, tA_world T, tU_world T, tR_image T, tA_image T, tU_image T, w32_id, if_neg, Int.zero_add, e1, up1_s, up1_up1]
    · unfold s_X11_back_l16_st
      dsimp only
      simp (disch := omega) only [w32_id, if_pos]
      rw [h1]
theorem t_fault (T : TL sh m) : s_X11_fault m (sh, I, J) = some (I m 17, (sh, thr I m 0, J)) := by
  unfold s_X11_fault
  simp only [t_thr T, t_gI T, bsome, thr_k (show (17 : Int) ≠ 0 by decide)]
theorem t_end (T : TL sh m) (hn : 0 ≤ I m 11 ∧ I m 11 ≤ 400) {n : Int} (hi : i32 n) :
    (0 ≤ n ∧ n ≤ I m 11 → s_X11_end m n (sh, I, J) = some (1, (sh, tpd (thr I m 0) m n, J))) ∧ (¬(0 ≤ n ∧ n ≤ I m 11) → s_X11_end m n (sh, I, J) = some (0, (sh, thr I m 0, J))) := by
  have h3 : thr I m 0 m 11 = I m 11 := thr_k (by decide)
  unfold i32 at hi
  refine ⟨fun h => ?_, fun h => ?_⟩
  · unfold s_X11_end
    simp (disch := omega) only [t_thr T, t_gI T, t_pI T, bsome, h3, w32_id, if_pos, if_neg]
    rfl
  · unfold s_X11_end
    by_cases h9 : n < 0
    · simp (disch := omega) only [t_thr T, t_gI T, t_pI T, bsome, h3, w32_id, if_pos]
    · simp (disch := omega) only [t_thr T, t_gI T, t_pI T, bsome, h3, w32_id, if_neg]
/-- the bytes that are fed -/
def sel5 (a b c d e : Int) (j : Int) : Int := if j = 0 then a else if j = 1 then b else if j = 2 then c else if j = 3 then d else e
def fdB (a b c d e : Int) (i : Nat) : Int := w8 (srI (sel5 a b c d e ((i / 4 : Nat) : Int)) (24 - 8 * ((i % 4 : Nat) : Int)))
theorem w8_w8 (x : Int) : w8 (w8 x) = w8 x := by unfold w8; omega
theorem t_feed (T : TL sh m) (hn : 0 ≤ I m 11 ∧ I m 11 ≤ 400) {a b c d e : Int} :
    (I m 11 + 20 ≤ 400 → ∃ I', s_X11_feed m a b c d e (sh, I, J) = some (I m 11 + 20, (sh, I', J)) ∧ HK m (tpd (up1 (thr I m 0) (m + 5) (wr (I (m + 5)) (I m 11) 20 (fdB a b c d e))) m (I m 11 + 20)) I') ∧
    (¬ I m 11 + 20 ≤ 400 → s_X11_feed m a b c d e (sh, I, J) = some (-1, (sh, thr I m 0, J))) := by
  obtain ⟨n, hnn⟩ : ∃ n, I m 11 = n := ⟨_, rfl⟩
  have h3 : thr I m 0 m 11 = n := by rw [thr_k (by decide), hnn]
  rw [hnn] at hn ⊢
  refine ⟨fun h => ?_, fun h => ?_⟩
  · unfold s_X11_feed
    simp (disch := omega) only [bsome, t_ck T, t_gI T, t_gJ T, tR_five T, tA_five T, tU_five T, t_thr T, h3, w32_id, if_pos, up1_s, up1_up1]
    obtain ⟨F, hF⟩ : ∃ F, upz (upz (upz (upz (upz (thr I m 0 (m + 6)) 0 a) 1 b) 2 c) 3 d) 4 e = F := ⟨_, rfl⟩
    rw [hF]
    have hF2 : ∀ j : Int, 0 ≤ j → j < 5 → F j = sel5 a b c d e j := by
      intro j j0 j1
      rw [← hF]
      unfold sel5 upz
      repeat' split
      all_goals first | rfl | omega
    obtain ⟨I1, hI1⟩ : ∃ I1, up1 (thr I m 0) (m + 6) F = I1 := ⟨_, rfl⟩
    rw [hI1]
    have k1 : HK m (thr I m 0) I1 := by rw [← hI1]; exact HK.arr (by omega)
    have h5 : I1 (m + 5) = I (m + 5) := by rw [← hI1, up1_n _ _ (by omega), thr_n (by omega)]
    have h6 : I1 (m + 6) = F := by rw [← hI1, up1_s]
    have h11 : I1 m 11 = n := by rw [k1.2 11 (by omega), h3]
    unfold s_X11_feed_l60
    have hl := arr_loop (f := fun s : Int × Me => s_X11_feed_l60_st m s.1 s.2) (sh := sh) (I := I1) (J := J) (m + 5) n 0 20 (fdB a b c d e) (r := (n + 20, (sh, tpd (up1 I1 (m + 5) (wr (I1 (m + 5)) n 20 (fdB a b c d e))) m (n + 20), J))) ?_ ?_
    · rw [hl, h5]
      refine ⟨_, rfl, ?_⟩
      refine HK.tpd ?_ _
      refine ⟨fun q x y => ?_, fun k hk => ?_⟩
      · by_cases e9 : q = m + 5
        · rw [e9, up1_s, up1_s]
        · rw [up1_n _ _ e9, up1_n _ _ e9, k1.1 q x y]
      · rw [up1_n _ _ (by omega), up1_n _ _ (by omega), k1.2 k hk]
    · intro i hi
      have hd : dvI (i : Int) 4 = some ((i / 4 : Nat) : Int) := by
        unfold dvI
        rw [w32_id (by omega) (by omega), w32_id (by omega) (by omega), if_neg (by omega), Int.tdiv_eq_ediv_of_nonneg (by omega)]
        rfl
      have hr : rmI (i : Int) 4 = some ((i % 4 : Nat) : Int) := by
        rw [rmI_m (by omega) (by omega) (by omega) (by omega), Int.tmod_eq_emod_of_nonneg (by omega)]
        rfl
      have o1 : up1 I1 (m + 5) (wr (I1 (m + 5)) n i (fdB a b c d e)) m 11 = n := by rw [up1_n _ _ (by omega), h11]
      have o2 : up1 I1 (m + 5) (wr (I1 (m + 5)) n i (fdB a b c d e)) (m + 6) ((i / 4 : Nat) : Int) = sel5 a b c d e ((i / 4 : Nat) : Int) := by rw [up1_n _ _ (by omega), h6, hF2 _ (by omega) (by omega)]
      unfold s_X11_feed_l60_st
      dsimp only
      rw [Int.zero_add]
      simp (disch := omega) only [bsome, t_ck T, t_gI T, t_pI T, t_gJ T, t_pJ T, tR_tape T, tA_tape T, tU_tape T, tR_five T, tA_five T, tU_five T, w32_id, if_neg, hd, hr, o1, o2, up1_s, up1_up1, w8_w8]
      rfl
    · have o1 : up1 I1 (m + 5) (wr (I1 (m + 5)) n 20 (fdB a b c d e)) m 11 = n := by rw [up1_n _ _ (by omega), h11]
      unfold s_X11_feed_l60_st s_X11_feed_b106
      dsimp only
      simp (disch := omega) only [t_gI T, t_pI T, bsome, w32_id, if_pos, o1, up1_s, upz_s]
      rfl
  · unfold s_X11_feed
    simp (disch := omega) only [t_gI T, t_thr T, h3, w32_id, if_neg, bsome]
theorem t_field (T : TL sh m) (hW : WI (I (m + 1))) {q : Int} (hq : i32 q) :
    (Pp q → I (m + 1) 1 + I (m + 1) 2 = 0 → ∃ I', s_X11_field m q (sh, I, J) = some (sh, I', J) ∧ HK m (up1 (thr I m 0) (m + 1) (upz (I (m + 1)) 0 q)) I') ∧
    (¬ Pp q → s_X11_field m q (sh, I, J) = some (sh, thr I m 1, J)) ∧ (Pp q → I (m + 1) 1 + I (m + 1) 2 ≠ 0 → s_X11_field m q (sh, I, J) = some (sh, thr I m 2, J)) := by
  have hc1 := hW.c1
  have hc2 := hW.c2
  have h0 : thr I m 0 (m + 1) = I (m + 1) := thr_n (by omega)
  have key : Pp q → s_X11_field m q (sh, I, J) = s_X11_field_b34 m q m (sh, thr I m 0, J) := by
    intro h
    unfold s_X11_field
    simp only [t_thr T, bsome]
    rw [w32_id hq.1 hq.2]
    rcases h with h | h | h | h <;> rw [h] <;> rfl
  refine ⟨fun h h2 => ?_, fun h => ?_, fun h h2 => ?_⟩
  · rw [key h]
    unfold s_X11_field_b34 s_X11_field_b35
    simp (disch := omega) only [bsome, t_ck T, t_gI T, t_pI T, t_gJ T, t_pJ T, tR_world T, tA_world T, tU_world T, t_if0, w32_id, if_pos, h0]
    unfold s_X11_field_b64
    simp (disch := omega) only [bsome, t_ck T, t_gI T, t_pI T, t_gJ T, t_pJ T, tR_world T, tA_world T, tU_world T, t_if0, w32_id, if_pos, h0]
    exact ⟨_, rfl, HK.refl⟩
  · have e : s_X11_field m q (sh, I, J) = s_X11_field_b35 m q 1 m (sh, thr I m 0, J) := by
      unfold Pp at h
      unfold s_X11_field
      simp only [t_thr T, bsome]
      rw [w32_id hq.1 hq.2, show w32 11 = 11 from rfl, show w32 13 = 13 from rfl, show w32 17 = 17 from rfl, show w32 19 = 19 from rfl, if_neg (by omega), if_neg (by omega), if_neg (by omega), if_neg (by omega)]
    rw [e]
    unfold s_X11_field_b35
    simp (disch := omega) only [t_ck T, bsome, t_if1 T, w32_id, if_neg, thr_thr]
  · rw [key h]
    unfold s_X11_field_b34 s_X11_field_b35
    simp (disch := omega) only [bsome, t_ck T, t_gI T, t_pI T, t_gJ T, t_pJ T, tR_world T, tA_world T, tU_world T, t_if0, w32_id, if_pos, if_neg, h0]
    unfold s_X11_field_b64
    simp (disch := omega) only [t_ck T, bsome, t_if1 T, w32_id, if_neg, thr_thr]
    all_goals rfl
/-- a form is laid -/
def addF (W : Int → Int) (n : Nat) (c : Nat → Int) : Int → Int := upz (upz (wr (upz W (6 + 10 * W 1) (n - 1)) (7 + 10 * W 1) n c) 1 (W 1 + 1)) 5 0
theorem t_uses (T : TL sh m) (h0 : I m 0 = 0 ∨ True) : ∃ I', s_X11_uses m (sh, I, J) = some (sh, I', J) ∧ HK m (tpd (thr I m 0) m 0) I' ∧ I' m 13 = I m 11 ∧ I' m 12 = 0 := by
  unfold s_X11_uses
  simp only [t_thr T, t_gI T, t_pI T, bsome, up1_up1, up1_s]
  have e11 : thr I m 0 m 11 = I m 11 := thr_k (by decide)
  refine ⟨_, rfl, ?_, ?_, ?_⟩
  · unfold tpd
    refine HK.eq (fun a x y => by rw [up1_n _ _ x, up1_n _ _ x]) ?_ ?_ ?_ ?_ <;> rw [up1_s, up1_s]
    · rw [upz_n _ _ (by decide), upz_n _ _ (by decide), upz_n _ _ (by decide), upz_n _ _ (by decide)]
    · rw [upz_n _ _ (by decide), upz_n _ _ (by decide), upz_n _ _ (by decide), upz_n _ _ (by decide)]
    · rw [upz_n _ _ (by decide), upz_s, upz_s]
    · rw [upz_n _ _ (by decide), upz_n _ _ (by decide), upz_n _ _ (by decide), upz_n _ _ (by decide)]
  · rw [up1_s, upz_n _ _ (by decide), upz_n _ _ (by decide), upz_s, e11]
  · rw [up1_s, upz_s]
theorem t_form (T : TL sh m) (hW : WI (I (m + 1))) (hn : 0 ≤ I m 11 ∧ I m 11 ≤ 400) :
    ((1 ≤ I m 11 ∧ I m 11 ≤ 9) → I (m + 1) 1 < 16 → ∃ I', s_X11_form m (sh, I, J) = some (I (m + 1) 1, (sh, I', J)) ∧ HK m (up1 (tpd (thr I m 0) m 0) (m + 1) (addF (I (m + 1)) (I m 11).toNat (fun i => anI (I (m + 5) i) 255 % I (m + 1) 0))) I') ∧
    (¬(1 ≤ I m 11 ∧ I m 11 ≤ 9) → ∃ r I', s_X11_form m (sh, I, J) = some (r, (sh, I', J)) ∧ HK m (tpd (thr I m 1) m 0) I') ∧
    ((1 ≤ I m 11 ∧ I m 11 ≤ 9) → I (m + 1) 1 = 16 → ∃ r I', s_X11_form m (sh, I, J) = some (r, (sh, I', J)) ∧ HK m (tpd (thr I m 2) m 0) I') := by
  have hc1 := hW.c1
  have hp := hW.pp
  obtain ⟨n, hnn⟩ : ∃ n : Nat, I m 11 = n := ⟨(I m 11).toNat, by omega⟩
  obtain ⟨I1, e1, k1, g13, g12⟩ := t_uses (J := J) T (Or.inr trivial) (I := I)
  obtain ⟨W, hw⟩ : ∃ W, I (m + 1) = W := ⟨_, rfl⟩
  obtain ⟨K, hK⟩ : ∃ K, I (m + 5) = K := ⟨_, rfl⟩
  rw [hnn] at hn g13 ⊢
  rw [hw] at hc1 hp ⊢
  rw [hK]
  have tq : ∀ a : Nat, a ≠ m → tpd (thr I m 0) m 0 a = I a := fun a h => by unfold tpd; rw [up1_n _ _ h, thr_n h]
  have hw1 : I1 (m + 1) = W := by rw [k1.w, tq _ (by omega), hw]
  have hK1 : I1 (m + 5) = K := by rw [k1.1 (m + 5) (by omega) (by omega), tq _ (by omega), hK]
  have e2 := x_in (x := (n : Int)) (lo := 1) (hi := 9) ⟨by omega, by omega⟩ ⟨by omega, by omega⟩ ⟨by omega, by omega⟩ (sh, I1, J)
  have hthr : ∀ c, HK m (tpd (thr I m c) m 0) (thr I1 m c) := by
    intro c
    refine HK.eq (fun a x y => ?_) ?_ ?_ ?_ ?_
    · rw [thr_n x, k1.1 a x y]
      unfold tpd
      rw [up1_n _ _ x, up1_n _ _ x, thr_n x, thr_n x]
    · rw [thr_0]
      unfold tpd
      rw [up1_s, upz_n _ _ (by decide), thr_0]
    · rw [thr_k (by decide), k1.2 3 (by omega)]
      unfold tpd
      rw [up1_s, up1_s, upz_n _ _ (by decide), upz_n _ _ (by decide), thr_k (by decide), thr_k (by decide)]
    · rw [thr_k (by decide), k1.2 11 (by omega)]
      unfold tpd
      rw [up1_s, up1_s, upz_s, upz_s]
    · rw [thr_k (by decide), k1.2 17 (by omega)]
      unfold tpd
      rw [up1_s, up1_s, upz_n _ _ (by decide), upz_n _ _ (by decide), thr_k (by decide), thr_k (by decide)]
  refine ⟨fun h h2 => ?_, fun h => ?_, fun h h2 => ?_⟩
  · rw [if_pos h] at e2
    unfold s_X11_form
    simp (disch := omega) only [t_ck T, t_gI T, bsome, e1, g13, e2, w32_id, if_neg]
    unfold s_X11_form_b23
    simp (disch := omega) only [bsome, t_ck T, t_gI T, t_pI T, t_gJ T, t_pJ T, tR_world T, tA_world T, tU_world T, t_if0, w32_id, if_pos, if_neg, hw1]
    unfold s_X11_form_b47 s_X11_formAt
    simp (disch := omega) only [bsome, t_ck T, t_gI T, t_pI T, t_gJ T, t_pJ T, tR_world T, tA_world T, tU_world T, t_if0, w32_id, if_pos, hw1, g13]
    unfold s_X11_form_l80
    rw [Int.toNat_natCast]
    obtain ⟨I2, hI2⟩ : ∃ I2, up1 I1 (m + 1) (upz W (6 + 10 * W 1) (n - 1)) = I2 := ⟨_, rfl⟩
    rw [hI2]
    have hw2 : I2 (m + 1) = upz W (6 + 10 * W 1) (n - 1) := by rw [← hI2, up1_s]
    have hK2 : I2 (m + 5) = K := by rw [← hI2, up1_n _ _ (by omega), hK1]
    have h13 : I2 m 13 = n := by rw [← hI2, up1_n _ _ (by omega), g13]
    have hl := arr_loop (f := fun s : Int × Me => s_X11_form_l80_st m (W 1) s.1 s.2) (sh := sh) (I := I2) (J := J) (m + 1) (7 + 10 * W 1) 0 n (fun i => anI (K i) 255 % W 0)
      (r := (W 1, (sh, up1 I2 (m + 1) (addF W n (fun i => anI (K i) 255 % W 0)), J))) ?_ ?_
    · rw [hl]
      refine ⟨_, rfl, ?_⟩
      rw [← hI2, up1_up1]
      exact k1.up _
    · intro i hi
      have o1 : up1 I2 (m + 1) (wr (I2 (m + 1)) (7 + 10 * W 1) i (fun i => anI (K i) 255 % W 0)) m 13 = n := by rw [up1_n _ _ (by omega), h13]
      have o2 : up1 I2 (m + 1) (wr (I2 (m + 1)) (7 + 10 * W 1) i (fun i => anI (K i) 255 % W 0)) (m + 5) = K := by rw [up1_n _ _ (by omega), hK2]
      have o3 : up1 I2 (m + 1) (wr (I2 (m + 1)) (7 + 10 * W 1) i (fun i => anI (K i) 255 % W 0)) (m + 1) 0 = W 0 := by rw [up1_s, wr_out (by omega), hw2, upz_n _ _ (by omega)]
      have hb := anI_b (K i) (show (0 : Int) ≤ 255 by decide) (show (255 : Int) < 2147483648 by decide)
      have e5 := fun a b => t_mod (J := J) T o3 hp (v := anI (K i) 255) a b
      unfold s_X11_form_l80_st s_X11_formAt
      dsimp only
      simp (disch := omega) only [bsome, t_ck T, t_gI T, t_pI T, t_gJ T, t_pJ T, tR_world T, tA_world T, tU_world T, tR_tape T, tA_tape T, tU_tape T, o1, w32_id, if_neg, Int.zero_add, o2, e5, up1_s, up1_up1]
      rw [show 6 + 10 * W 1 + 1 + (i : Int) = 7 + 10 * W 1 + i by omega]
    · have o1 : up1 I2 (m + 1) (wr (I2 (m + 1)) (7 + 10 * W 1) n (fun i => anI (K i) 255 % W 0)) m 13 = n := by rw [up1_n _ _ (by omega), h13]
      have o3 : wr (I2 (m + 1)) (7 + 10 * W 1) n (fun i => anI (K i) 255 % W 0) 1 = W 1 := by rw [wr_out (by omega), hw2, upz_n _ _ (by omega)]
      unfold s_X11_form_l80_st s_X11_form_b122
      dsimp only
      simp (disch := omega) only [bsome, t_ck T, t_gI T, t_pI T, t_gJ T, t_pJ T, tR_world T, tA_world T, tU_world T, o1, w32_id, if_pos, up1_s, up1_up1, o3]
      rw [hw2]
      rfl
  · rw [if_neg h] at e2
    unfold s_X11_form
    simp (disch := omega) only [t_ck T, t_gI T, bsome, e1, g13, e2, w32_id, if_pos]
    unfold s_X11_form_b23
    simp (disch := omega) only [t_ck T, bsome, t_if1 T, w32_id, if_neg]
    exact ⟨_, _, rfl, hthr 1⟩
  · rw [if_pos h] at e2
    unfold s_X11_form
    simp (disch := omega) only [t_ck T, t_gI T, bsome, e1, g13, e2, w32_id, if_neg]
    unfold s_X11_form_b23
    simp (disch := omega) only [bsome, t_ck T, t_gI T, t_pI T, t_gJ T, t_pJ T, tR_world T, tA_world T, tU_world T, t_if0, w32_id, if_pos, hw1]
    unfold s_X11_form_b47
    simp (disch := omega) only [t_ck T, bsome, t_if1 T, w32_id, if_neg]
    exact ⟨_, _, rfl, hthr 2⟩
/-- how many forms are nought -/
def nzM (W : Int → Int) : Nat → Int
  | 0 => 0
  | n + 1 => nzM W n + nzI (W 0) (fC W n) (fD W n + 1).toNat
def stkP (W : Int → Int) (k : Int) : Int := if k = 0 then W 0 else if k = 1 then W 1 else if k = 2 then W 2 else if k = 3 then W 3 else if k = 4 then W 4 else if k = 5 then W 5 else if k = 6 then nzM W (W 1).toNat else -1
theorem nzM_b (W : Int → Int) : ∀ n : Nat, 0 ≤ nzM W n ∧ nzM W n ≤ n
  | 0 => ⟨Int.le_refl _, Int.le_refl _⟩
  | n + 1 => by
    have h1 := nzM_b W n
    have h2 := (nzI_iff (W 0) (fC W n) (fD W n + 1).toNat).1
    unfold nzM
    omega
theorem t_stock (T : TL sh m) (hW : WI (I (m + 1))) {k : Int} (hk : i32 k) : QG (s_X11_stock m k (sh, I, J)) sh I J m (stkP (I (m + 1)) k) := by
  obtain ⟨W, hw⟩ : ∃ W, I (m + 1) = W := ⟨_, rfl⟩
  rw [hw] at hW ⊢
  have hc1 := hW.c1
  have h0 : thr I m 0 (m + 1) = W := by rw [thr_n (by omega), hw]
  unfold s_X11_stock stkP
  simp (disch := omega) only [bsome, t_ck T, t_gI T, t_gJ T, tR_world T, tA_world T, tU_world T, t_thr T, h0, t_p T]
  rw [w32_id hk.1 hk.2]
  by_cases k0 : k = 0
  · rw [if_pos k0, if_pos k0]; exact ⟨_, _, rfl, HK.refl, HJ.refl⟩
  rw [if_neg k0, if_neg k0]
  by_cases k1 : k = 1
  · rw [if_pos k1, if_pos k1]; exact ⟨_, _, rfl, HK.refl, HJ.refl⟩
  rw [if_neg k1, if_neg k1]
  by_cases k2 : k = 2
  · rw [if_pos k2, if_pos k2]; exact ⟨_, _, rfl, HK.refl, HJ.refl⟩
  rw [if_neg k2, if_neg k2]
  by_cases k3 : k = 3
  · rw [if_pos k3, if_pos k3]; exact ⟨_, _, rfl, HK.refl, HJ.refl⟩
  rw [if_neg k3, if_neg k3]
  by_cases k4 : k = 4
  · rw [if_pos k4, if_pos k4]; exact ⟨_, _, rfl, HK.refl, HJ.refl⟩
  rw [if_neg k4, if_neg k4]
  by_cases k5 : k = 5
  · rw [if_pos k5, if_pos k5]; exact ⟨_, _, rfl, HK.refl, HJ.refl⟩
  rw [if_neg k5, if_neg k5]
  by_cases k6 : k = 6
  · rw [if_pos k6, if_pos k6]
    unfold s_X11_stock_l94
    have hlp := whileO_for (f := fun s : Int × Int × Me => s_X11_stock_l94_st m s.1 s.2.1 s.2.2) (W 1).toNat (fun i s => ∃ I', s = (nzM W i, (i : Int), ((sh, I', J) : Me)) ∧ HK m (thr I m 0) I')
      (fun r => ∃ I', r = (nzM W (W 1).toNat, ((sh, I', J) : Me)) ∧ HK m (thr I m 0) I') ?_ ?_ (0, 0, (sh, thr I m 0, J)) ⟨_, rfl, HK.refl⟩
    · obtain ⟨r, hr, I', hr2, hk2⟩ := hlp
      rw [hr, hr2]
      exact ⟨_, _, rfl, hk2, HJ.refl⟩
    · rintro i s hi ⟨I2, rfl, k2⟩
      have hw2 : I2 (m + 1) = W := by rw [k2.w, h0]
      have hF := hW.f (f := i) (by omega) (by omega)
      obtain ⟨I3, e3, r3, f3⟩ := t_takes (I := I2) (J := J) T (p := W 0) (by rw [hw2]) (r := 40) (f := i) (by omega) (by omega) (by rw [hw2]; exact hF)
      rw [hw2] at r3
      have e4 := t_isN (J := J) T hW.pp (by omega) (by have := hF.1; omega) r3
      have h9 := (nzI_iff (W 0) (fC W i) (fD W i + 1).toNat).1
      unfold s_X11_stock_l94_st
      dsimp only
      simp (disch := omega) only [bsome, t_ck T, t_gI T, t_pI T, t_gJ T, t_pJ T, tR_world T, tA_world T, tU_world T, hw2, w32_id, if_neg, e3, e4]
      rcases h9 with h9 | h9
      · rw [h9, if_pos rfl]
        refine ⟨_, rfl, I3, ?_, k2.trans f3.hk⟩
        show _ = (nzM W i + nzI (W 0) (fC W i) (fD W i + 1).toNat, _, _)
        rw [h9]
        simp
      · rw [h9, if_neg (by decide)]
        refine ⟨_, rfl, I3, ?_, k2.trans f3.hk⟩
        show _ = (nzM W i + nzI (W 0) (fC W i) (fD W i + 1).toNat, _, _)
        rw [h9]
        simp
    · rintro s ⟨I2, rfl, k2⟩
      have hw2 : I2 (m + 1) = W := by rw [k2.w, h0]
      unfold s_X11_stock_l94_st
      dsimp only
      simp (disch := omega) only [bsome, t_ck T, t_gI T, t_pI T, t_gJ T, t_pJ T, tR_world T, tA_world T, tU_world T, hw2, w32_id, if_pos]
      exact ⟨_, rfl, I2, rfl, k2⟩
  rw [if_neg k6, if_neg k6]
  exact ⟨_, _, rfl, HK.refl, HJ.refl⟩
end TY
