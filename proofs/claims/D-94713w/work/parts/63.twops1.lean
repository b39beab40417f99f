/-! the twin: short questions; tables -/
set_option maxRecDepth 100000
theorem HK.up {m : Nat} {I I' : Nat → Int → Int} (h : HK m I I') (W : Int → Int) : HK m (up1 I (m + 1) W) (up1 I' (m + 1) W) := by
  refine ⟨fun a x y => ?_, fun k hk => ?_⟩
  · by_cases e : a = m + 1
    · rw [e, up1_s, up1_s]
    · rw [up1_n _ _ e, up1_n _ _ e, h.1 a x y]
  · rw [up1_n _ _ (by omega), up1_n _ _ (by omega), h.2 k hk]
theorem HK.thr {m : Nat} {I I' : Nat → Int → Int} (h : HK m (thr I m 0) I') (c : Int) : HK m (thr I m c) (thr I' m c) := by
  refine ⟨fun a x y => ?_, fun k hk => ?_⟩
  · rw [thr_n x, thr_n x, h.1 a x y, thr_n x]
  · by_cases e : k = 0
    · rw [e, thr_0, thr_0]
    · rw [thr_k e, thr_k e, h.2 k hk, thr_k e]
/-- a call that changes the world -/
def QW (x : Option (Int × Me)) (sh : Sh) (I J : Nat → Int → Int) (m : Nat) (r : Int) (W : Int → Int) : Prop := ∃ I' J', x = some (r, (sh, I', J')) ∧ HK m (up1 (thr I m 0) (m + 1) W) I' ∧ HJ m J J'
def addT (W : Int → Int) (a b c d : Int) : Int → Int := upz (upz (upz (upz (upz W (166 + 4 * W 2) a) (166 + 4 * W 2 + 1) b) (166 + 4 * W 2 + 2) c) (166 + 4 * W 2 + 3) d) 2 (W 2 + 1)
def jnT (p : Int) (a b c d a1 b1 c1 d1 : Int) : Int × Int × Int × Int := ((a * a1 + b * c1) % p, (a * b1 + b * d1) % p, (c * a1 + d * c1) % p, (c * b1 + d * d1) % p)
section TS
variable {sh : Sh} {I J : Nat → Int → Int} {m : Nat} {p : Int}
theorem t_timesB (T : TL sh m) (hI : I (m + 1) 0 = p) (hp : Pp p) {a b : Int} (ha : 0 ≤ a ∧ a < p) (hb : 0 ≤ b ∧ b < p) : s_X11_times m a b (sh, I, J) = some (a * b % p, (sh, I, J)) := by
  have h := t_timesM (J := J) T hI hp a b
  rwa [emod_id p ha, emod_id p hb] at h
theorem t_look (T : TL sh m) (hW : WI (I (m + 1))) {f k : Int} (hf : i32 f) (hk : i32 k) :
    ((0 ≤ f ∧ f < I (m + 1) 1) → QG (s_X11_look m f k (sh, I, J)) sh I J m (tellP (fD (I (m + 1)) f) (fC (I (m + 1)) f) (I (m + 1) 0) k)) ∧ (¬(0 ≤ f ∧ f < I (m + 1) 1) → QB (s_X11_look m f k (sh, I, J)) sh I J m 1) := by
  have hc := hW.c1
  have h0 : thr I m 0 (m + 1) = I (m + 1) := thr_n (by omega)
  have e1 := t_noF (I := thr I m 0) (J := J) T (by rw [h0]; exact hc) hf
  rw [h0] at e1
  refine ⟨fun h => ?_, fun h => ?_⟩
  · rw [if_pos h] at e1
    obtain ⟨hF1, hF2⟩ := hW.f h.1 h.2
    unfold s_X11_look
    simp (disch := omega) only [t_thr T, bsome, t_ck T, e1, t_if0, w32_id, if_pos, t_degreeOf T, h0]
    rw [w32_id hk.1 hk.2]
    unfold tellP
    by_cases h1 : k = -1
    · rw [if_pos h1, if_pos h1]
      exact ⟨_, _, rfl, HK.refl, HJ.refl⟩
    · rw [if_neg h1, if_neg h1, x_in hk ⟨by omega, by omega⟩ ⟨by omega, by omega⟩, bsome]
      dsimp only
      by_cases h2 : 0 ≤ k ∧ k ≤ fD (I (m + 1)) f
      · have h9 := hF2 k h2.1 h2.2
        rw [if_pos h2, if_pos h2]
        simp (disch := omega) only [w32_id, if_neg, bsome, t_numberOf T, h0, t_ck T]
        rw [emod_id _ h9]
        exact ⟨_, _, rfl, HK.refl, HJ.refl⟩
      · rw [if_neg h2, if_neg h2]
        exact ⟨_, _, rfl, HK.refl, HJ.refl⟩
  · rw [if_neg h] at e1
    unfold s_X11_look
    simp (disch := omega) only [t_thr T, bsome, t_ck T, e1, t_if1 T, w32_id, if_neg, thr_thr]
    exact ⟨_, _, _, rfl, HK.refl, HJ.refl⟩
theorem t_det (T : TL sh m) (hW : WI (I (m + 1))) {t : Int} (ht : i32 t) :
    ((0 ≤ t ∧ t < I (m + 1) 2) → QG (s_X11_det m t (sh, I, J)) sh I J m (dtP (tT (I (m + 1)) t 0) (tT (I (m + 1)) t 1) (tT (I (m + 1)) t 2) (tT (I (m + 1)) t 3) % I (m + 1) 0)) ∧ (¬(0 ≤ t ∧ t < I (m + 1) 2) → QB (s_X11_det m t (sh, I, J)) sh I J m 1) := by
  have hc := hW.c2
  have h0 : thr I m 0 (m + 1) = I (m + 1) := thr_n (by omega)
  have e1 := t_noT (I := thr I m 0) (J := J) T (by rw [h0]; exact hc) ht
  rw [h0] at e1
  refine ⟨fun h => ?_, fun h => ?_⟩
  · rw [if_pos h] at e1
    have hT := hW.t h.1 h.2
    have e2 := t_tables (I := thr I m 0) (J := J) T h.1 (show t < 8 by omega)
    rw [h0] at e2
    have e3 := t_detNow (J := J) T (p := I (m + 1) 0) (by rw [tkT_n (by omega), h0]) hW.pp (tkT_tb (I := thr I m 0) (m := m) hT)
    unfold s_X11_det
    simp (disch := omega) only [t_thr T, bsome, t_ck T, e1, t_if0, w32_id, if_pos, e2, e3]
    exact ⟨_, _, rfl, tkT_hk, HJ.refl⟩
  · rw [if_neg h] at e1
    unfold s_X11_det
    simp (disch := omega) only [t_thr T, bsome, t_ck T, e1, t_if1 T, w32_id, if_neg, thr_thr]
    exact ⟨_, _, _, rfl, HK.refl, HJ.refl⟩
theorem t_told (T : TL sh m) (hW : WI (I (m + 1))) {t k : Int} (ht : i32 t) (hk : i32 k) :
    ((0 ≤ t ∧ t < I (m + 1) 2) → QG (s_X11_told m t k (sh, I, J)) sh I J m (if 0 ≤ k ∧ k ≤ 3 then tT (I (m + 1)) t k else -1)) ∧ (¬(0 ≤ t ∧ t < I (m + 1) 2) → QB (s_X11_told m t k (sh, I, J)) sh I J m 1) := by
  have hc := hW.c2
  have h0 : thr I m 0 (m + 1) = I (m + 1) := thr_n (by omega)
  have e1 := t_noT (I := thr I m 0) (J := J) T (by rw [h0]; exact hc) ht
  rw [h0] at e1
  refine ⟨fun h => ?_, fun h => ?_⟩
  · rw [if_pos h] at e1
    unfold s_X11_told
    simp (disch := omega) only [t_thr T, bsome, t_ck T, e1, t_if0, w32_id, if_pos]
    rw [x_in hk ⟨by omega, by omega⟩ ⟨by omega, by omega⟩, bsome]
    dsimp only
    by_cases h2 : 0 ≤ k ∧ k ≤ 3
    · rw [if_pos h2, if_pos h2]
      simp (disch := omega) only [w32_id, if_neg, bsome, t_ofTable T, h0, t_ck T]
      exact ⟨_, _, rfl, HK.refl, HJ.refl⟩
    · rw [if_neg h2, if_neg h2]
      exact ⟨_, _, rfl, HK.refl, HJ.refl⟩
  · rw [if_neg h] at e1
    unfold s_X11_told
    simp (disch := omega) only [t_thr T, bsome, t_ck T, e1, t_if1 T, w32_id, if_neg, thr_thr]
    exact ⟨_, _, _, rfl, HK.refl, HJ.refl⟩
theorem t_at (T : TL sh m) (hW : WI (I (m + 1))) {f x y : Int} (hf : i32 f) (hx : i32 x) (hy : i32 y) :
    ((0 ≤ f ∧ f < I (m + 1) 1) → QG (s_X11_at m f x y (sh, I, J)) sh I J m (evP (fD (I (m + 1)) f) (fC (I (m + 1)) f) x y % I (m + 1) 0)) ∧ (¬(0 ≤ f ∧ f < I (m + 1) 1) → QB (s_X11_at m f x y (sh, I, J)) sh I J m 1) := by
  have hc := hW.c1
  have h0 : thr I m 0 (m + 1) = I (m + 1) := thr_n (by omega)
  have e1 := t_noF (I := thr I m 0) (J := J) T (by rw [h0]; exact hc) hf
  rw [h0] at e1
  unfold i32 at hx hy
  refine ⟨fun h => ?_, fun h => ?_⟩
  · rw [if_pos h] at e1
    have hF := hW.f h.1 h.2
    obtain ⟨I1, e2, r2, f2⟩ := t_takes (I := thr I m 0) (J := J) T (p := I (m + 1) 0) (by rw [h0]) (r := 40) (by omega) ⟨h.1, show f < 16 by omega⟩ (by rw [h0]; exact hF)
    rw [h0] at r2
    have hI1 : I1 (m + 1) 0 = I (m + 1) 0 := by rw [f2.w, h0]
    have e3 := fun v a b => t_mod (J := J) (v := v) T hI1 hW.pp a b
    have e4 := t_valueAt (J := J) T hI1 hW.pp x y (by omega) (by have := hF.1; omega) r2
    unfold s_X11_at
    simp (disch := omega) only [t_thr T, bsome, t_ck T, e1, t_if0, w32_id, if_pos, e2, e3, e4]
    exact ⟨_, _, rfl, f2.hk, HJ.refl⟩
  · rw [if_neg h] at e1
    unfold s_X11_at
    simp (disch := omega) only [t_thr T, bsome, t_ck T, e1, t_if1 T, w32_id, if_neg, thr_thr]
    exact ⟨_, _, _, rfl, HK.refl, HJ.refl⟩
theorem t_laysT (T : TL sh m) (hc : 0 ≤ I (m + 1) 2 ∧ I (m + 1) 2 < 8) {a b c d : Int} (h6 : I m 6 = a) (h7 : I m 7 = b) (h8 : I m 8 = c) (h9 : I m 9 = d) :
    s_X11_lays m (sh, I, J) = some (I (m + 1) 2, (sh, up1 I (m + 1) (addT (I (m + 1)) a b c d), J)) := by
  unfold s_X11_lays
  simp (disch := omega) only [bsome, t_ck T, t_gI T, t_pI T, t_gJ T, t_pJ T, tR_world T, tA_world T, tU_world T, up1_up1, up1_s, up1_n, upz_n, h6, h7, h8, h9, upz_s]
  rw [show I (m + 1) 2 + 1 - 1 = I (m + 1) 2 by omega]
  rfl
theorem t_table (T : TL sh m) (hW : WI (I (m + 1))) {a b c d : Int} (ha : i32 a) (hb : i32 b) (hc : i32 c) (hd : i32 d) :
    (dtP a b c d % I (m + 1) 0 ≠ 0 → I (m + 1) 2 < 8 → QW (s_X11_table m a b c d (sh, I, J)) sh I J m (I (m + 1) 2) (addT (I (m + 1)) (a % I (m + 1) 0) (b % I (m + 1) 0) (c % I (m + 1) 0) (d % I (m + 1) 0))) ∧
    (dtP a b c d % I (m + 1) 0 = 0 → QB (s_X11_table m a b c d (sh, I, J)) sh I J m 1) ∧
    (dtP a b c d % I (m + 1) 0 ≠ 0 → I (m + 1) 2 = 8 → QB (s_X11_table m a b c d (sh, I, J)) sh I J m 2) := by
  obtain ⟨p, hI⟩ : ∃ p, I (m + 1) 0 = p := ⟨_, rfl⟩
  have hp := hW.pp
  have hW2 := hW.c2
  rw [hI] at hp ⊢
  unfold i32 at ha hb hc hd
  have h0 : thr I m 0 (m + 1) = I (m + 1) := thr_n (by omega)
  have hI0 : thr I m 0 (m + 1) 0 = p := by rw [h0, hI]
  have e3 := fun v a b => t_mod (I := thr I m 0) (J := J) (v := v) T hI0 hp a b
  obtain ⟨I2, hI2⟩ : ∃ I2, tkT (thr I m 0) m (a % p) (b % p) (c % p) (d % p) = I2 := ⟨_, rfl⟩
  have hk2 : HK m (thr I m 0) I2 := by rw [← hI2]; exact tkT_hk
  have hw2 : I2 (m + 1) = I (m + 1) := by rw [hk2.w, h0]
  obtain ⟨g6, g7, g8, g9⟩ := tkT_6 (I := thr I m 0) (m := m) (a := a % p) (b := b % p) (c := c % p) (d := d % p)
  rw [hI2] at g6 g7 g8 g9
  have hTB : TB I2 m p a b c d := ⟨g6, g7, g8, g9⟩
  have e4 := t_detNow (J := J) T (p := p) (by rw [hw2, hI]) hp hTB
  have hdb := emod_b hp (dtP a b c d)
  have hpb := hp.b
  refine ⟨fun h h8 => ?_, fun h => ?_, fun h h8 => ?_⟩
  · have e5 := t_laysT (J := J) T (by rw [hw2]; omega) g6 g7 g8 g9
    rw [hw2] at e5
    unfold s_X11_table
    simp (disch := omega) only [t_thr T, bsome, t_ck T, w32_id, e3, t_takesTable T, hI2, e4, if_neg]
    unfold s_X11_table_b47
    simp (disch := omega) only [bsome, t_ck T, t_gI T, t_pI T, t_gJ T, t_pJ T, tR_world T, tA_world T, tU_world T, t_if0, w32_id, if_pos, if_neg, hw2]
    unfold s_X11_table_b71
    simp (disch := omega) only [t_ck T, bsome, t_if0, w32_id, if_pos, e5]
    exact ⟨_, _, rfl, hk2.up _, HJ.refl⟩
  · unfold s_X11_table
    simp (disch := omega) only [t_thr T, bsome, t_ck T, w32_id, e3, t_takesTable T, hI2, e4, if_pos]
    unfold s_X11_table_b47
    simp (disch := omega) only [t_ck T, bsome, t_if1 T, w32_id, if_neg]
    refine ⟨_, _, _, rfl, ?_, HJ.refl⟩
    exact hk2.thr 1
  · unfold s_X11_table
    simp (disch := omega) only [t_thr T, bsome, t_ck T, w32_id, e3, t_takesTable T, hI2, e4, if_neg]
    unfold s_X11_table_b47
    simp (disch := omega) only [bsome, t_ck T, t_gI T, t_pI T, t_gJ T, t_pJ T, tR_world T, tA_world T, tU_world T, t_if0, w32_id, if_pos, hw2]
    unfold s_X11_table_b71
    simp (disch := omega) only [t_ck T, bsome, t_if1 T, w32_id, if_neg]
    refine ⟨_, _, _, rfl, ?_, HJ.refl⟩
    exact hk2.thr 2
theorem t_turn (T : TL sh m) (hW : WI (I (m + 1))) {t : Int} (ht : i32 t) :
    ((0 ≤ t ∧ t < I (m + 1) 2) → I (m + 1) 2 < 8 → QW (s_X11_turn m t (sh, I, J)) sh I J m (I (m + 1) 2)
      (addT (I (m + 1)) (ivT (I (m + 1) 0) (tT (I (m + 1)) t 0) (tT (I (m + 1)) t 1) (tT (I (m + 1)) t 2) (tT (I (m + 1)) t 3)).1 (ivT (I (m + 1) 0) (tT (I (m + 1)) t 0) (tT (I (m + 1)) t 1) (tT (I (m + 1)) t 2) (tT (I (m + 1)) t 3)).2.1
        (ivT (I (m + 1) 0) (tT (I (m + 1)) t 0) (tT (I (m + 1)) t 1) (tT (I (m + 1)) t 2) (tT (I (m + 1)) t 3)).2.2.1 (ivT (I (m + 1) 0) (tT (I (m + 1)) t 0) (tT (I (m + 1)) t 1) (tT (I (m + 1)) t 2) (tT (I (m + 1)) t 3)).2.2.2)) ∧
    (¬(0 ≤ t ∧ t < I (m + 1) 2) → QB (s_X11_turn m t (sh, I, J)) sh I J m 1) ∧
    ((0 ≤ t ∧ t < I (m + 1) 2) → I (m + 1) 2 = 8 → QB (s_X11_turn m t (sh, I, J)) sh I J m 2) := by
  obtain ⟨p, hI⟩ : ∃ p, I (m + 1) 0 = p := ⟨_, rfl⟩
  have hp := hW.pp
  have hW2 := hW.c2
  rw [hI] at hp ⊢
  have h0 : thr I m 0 (m + 1) = I (m + 1) := thr_n (by omega)
  have e1 := t_noT (I := thr I m 0) (J := J) T (by rw [h0]; exact hW2) ht
  rw [h0] at e1
  refine ⟨fun h h8 => ?_, fun h => ?_, fun h h8 => ?_⟩
  · rw [if_pos h] at e1
    have hT := hW.t h.1 h.2
    rw [hI] at hT
    have e2 := t_tables (I := thr I m 0) (J := J) T h.1 (show t < 8 by omega)
    rw [h0] at e2
    obtain ⟨I2, hI2⟩ : ∃ I2, tkT (thr I m 0) m (tT (I (m + 1)) t 0) (tT (I (m + 1)) t 1) (tT (I (m + 1)) t 2) (tT (I (m + 1)) t 3) = I2 := ⟨_, rfl⟩
    have hk2 : HK m (thr I m 0) I2 := by rw [← hI2]; exact tkT_hk
    have hw2 : I2 (m + 1) = I (m + 1) := by rw [hk2.w, h0]
    have hTB := tkT_tb (I := thr I m 0) (m := m) hT
    rw [hI2] at hTB e2
    have e3 := t_turnsBack (J := J) T (p := p) (by rw [hw2, hI]) hp hTB
    obtain ⟨v, hv⟩ : ∃ v, ivT p (tT (I (m + 1)) t 0) (tT (I (m + 1)) t 1) (tT (I (m + 1)) t 2) (tT (I (m + 1)) t 3) = v := ⟨_, rfl⟩
    rw [hv] at e3 ⊢
    obtain ⟨I3, hI3⟩ : ∃ I3, tkT I2 m v.1 v.2.1 v.2.2.1 v.2.2.2 = I3 := ⟨_, rfl⟩
    obtain ⟨g6, g7, g8, g9⟩ := tkT_6 (I := I2) (m := m) (a := v.1) (b := v.2.1) (c := v.2.2.1) (d := v.2.2.2)
    rw [hI3] at g6 g7 g8 g9 e3
    have hk3 : HK m I2 I3 := by rw [← hI3]; exact tkT_hk
    have hw3 : I3 (m + 1) = I (m + 1) := by rw [hk3.w, hw2]
    have e5 := t_laysT (J := J) T (by rw [hw3]; omega) g6 g7 g8 g9
    rw [hw3] at e5
    unfold s_X11_turn
    simp (disch := omega) only [bsome, t_ck T, t_gI T, t_gJ T, tR_world T, tA_world T, tU_world T, t_thr T, e1, t_if0, w32_id, if_pos, if_neg, h0]
    unfold s_X11_turn_b35
    simp (disch := omega) only [t_ck T, bsome, t_if0, w32_id, if_pos, e2, e3, e5]
    exact ⟨_, _, rfl, (hk2.trans hk3).up _, HJ.refl⟩
  · rw [if_neg h] at e1
    unfold s_X11_turn
    simp (disch := omega) only [t_thr T, bsome, t_ck T, e1, t_if1 T, w32_id, if_neg, thr_thr]
    exact ⟨_, _, _, rfl, HK.refl, HJ.refl⟩
  · rw [if_pos h] at e1
    unfold s_X11_turn
    simp (disch := omega) only [bsome, t_ck T, t_gI T, t_gJ T, tR_world T, tA_world T, tU_world T, t_thr T, e1, t_if0, w32_id, if_pos, h0]
    unfold s_X11_turn_b35
    simp (disch := omega) only [t_ck T, bsome, t_if1 T, w32_id, if_neg, thr_thr]
    exact ⟨_, _, _, rfl, HK.refl, HJ.refl⟩
theorem t_join (T : TL sh m) (hW : WI (I (m + 1))) {t u : Int} (ht : i32 t) (hu : i32 u) :
    ((0 ≤ t ∧ t < I (m + 1) 2) → (0 ≤ u ∧ u < I (m + 1) 2) → I (m + 1) 2 < 8 → QW (s_X11_join m t u (sh, I, J)) sh I J m (I (m + 1) 2)
      (addT (I (m + 1)) ((tT (I (m + 1)) t 0 * tT (I (m + 1)) u 0 + tT (I (m + 1)) t 1 * tT (I (m + 1)) u 2) % I (m + 1) 0) ((tT (I (m + 1)) t 0 * tT (I (m + 1)) u 1 + tT (I (m + 1)) t 1 * tT (I (m + 1)) u 3) % I (m + 1) 0)
        ((tT (I (m + 1)) t 2 * tT (I (m + 1)) u 0 + tT (I (m + 1)) t 3 * tT (I (m + 1)) u 2) % I (m + 1) 0) ((tT (I (m + 1)) t 2 * tT (I (m + 1)) u 1 + tT (I (m + 1)) t 3 * tT (I (m + 1)) u 3) % I (m + 1) 0))) ∧
    (¬((0 ≤ t ∧ t < I (m + 1) 2) ∧ (0 ≤ u ∧ u < I (m + 1) 2)) → QB (s_X11_join m t u (sh, I, J)) sh I J m 1) ∧
    ((0 ≤ t ∧ t < I (m + 1) 2) → (0 ≤ u ∧ u < I (m + 1) 2) → I (m + 1) 2 = 8 → QB (s_X11_join m t u (sh, I, J)) sh I J m 2) := by
  obtain ⟨p, hI⟩ : ∃ p, I (m + 1) 0 = p := ⟨_, rfl⟩
  have hp := hW.pp
  have hW2 := hW.c2
  rw [hI] at hp ⊢
  have h0 : thr I m 0 (m + 1) = I (m + 1) := thr_n (by omega)
  have e1 := t_noT (I := thr I m 0) (J := J) T (by rw [h0]; exact hW2) ht
  have e1' := t_noT (I := thr I m 0) (J := J) T (by rw [h0]; exact hW2) hu
  rw [h0] at e1 e1'
  refine ⟨fun h g h8 => ?_, fun h => ?_, fun h g h8 => ?_⟩
  · rw [if_pos h] at e1
    rw [if_pos g] at e1'
    obtain ⟨a0, a1, a2, a3, -⟩ := hW.t h.1 h.2
    obtain ⟨b0, b1, b2, b3, -⟩ := hW.t g.1 g.2
    rw [hI] at a0 a1 a2 a3 b0 b1 b2 b3
    have e2 := t_tables (I := thr I m 0) (J := J) T h.1 (show t < 8 by omega)
    rw [h0] at e2
    obtain ⟨I2, hI2⟩ : ∃ I2, tkT (thr I m 0) m (tT (I (m + 1)) t 0) (tT (I (m + 1)) t 1) (tT (I (m + 1)) t 2) (tT (I (m + 1)) t 3) = I2 := ⟨_, rfl⟩
    have hk2 : HK m (thr I m 0) I2 := by rw [← hI2]; exact tkT_hk
    have hw2 : I2 (m + 1) = I (m + 1) := by rw [hk2.w, h0]
    have hp2 : I2 (m + 1) 0 = p := by rw [hw2, hI]
    obtain ⟨q6, q7, q8, q9⟩ := tkT_6 (I := thr I m 0) (m := m) (a := tT (I (m + 1)) t 0) (b := tT (I (m + 1)) t 1) (c := tT (I (m + 1)) t 2) (d := tT (I (m + 1)) t 3)
    rw [hI2] at q6 q7 q8 q9 e2
    have e3 := fun i x y => t_ofTable (I := I2) (J := J) (i := i) T g.1 (show u < 8 by omega) x y
    rw [hw2] at e3
    have e4 := fun (x y : Int) (hx : 0 ≤ x ∧ x < p) (hy : 0 ≤ y ∧ y < p) => t_timesB (J := J) T hp2 hp hx hy
    have e5 := fun v : Int × Int × Int × Int => t_laysT (I := tkT I2 m v.1 v.2.1 v.2.2.1 v.2.2.2) (J := J) T (by rw [tkT_n (by omega), hw2]; omega) (tkT_6 (I := I2) (m := m) (a := v.1) (b := v.2.1) (c := v.2.2.1) (d := v.2.2.2)).1 (tkT_6 (I := I2)).2.1 (tkT_6 (I := I2)).2.2.1 (tkT_6 (I := I2)).2.2.2
    have e6 := fun v1 v2 v3 v4 => e5 (v1, v2, v3, v4)
    dsimp only at e6
    unfold s_X11_join
    simp (disch := omega) only [t_thr T, bsome, t_ck T, e1, e1', w32_id, if_pos]
    unfold s_X11_join_b27
    simp (disch := omega) only [bsome, t_ck T, t_gI T, t_pI T, t_gJ T, t_pJ T, tR_world T, tA_world T, tU_world T, t_if0, w32_id, if_pos, if_neg, h0]
    unfold s_X11_join_b51
    simp (disch := omega) only [t_ck T, t_gI T, bsome, t_if0, w32_id, if_pos, e2, q6, q7, q8, q9, e3, e4, t_plusM T hp2 hp, t_takesTable T, e6]
    rw [tkT_n (by omega), hw2]
    exact ⟨_, _, rfl, (hk2.trans tkT_hk).up _, HJ.refl⟩
  · have key : s_X11_join m t u (sh, I, J) = s_X11_join_b22 m t u m (sh, thr I m 0, J) := by
      unfold s_X11_join
      simp (disch := omega) only [t_thr T, bsome, t_ck T, e1, e1']
      by_cases h1 : 0 ≤ t ∧ t < I (m + 1) 2
      · rw [if_pos h1, if_neg (fun h2 => h ⟨h1, h2⟩)]
        simp (disch := omega) only [w32_id, if_pos, if_neg]
        all_goals rfl
      · rw [if_neg h1]
        simp (disch := omega) only [w32_id, if_neg]
    rw [key]
    unfold s_X11_join_b22 s_X11_join_b27
    simp (disch := omega) only [t_ck T, bsome, t_if1 T, w32_id, if_neg, thr_thr]
    exact ⟨_, _, _, rfl, HK.refl, HJ.refl⟩
  · rw [if_pos h] at e1
    rw [if_pos g] at e1'
    unfold s_X11_join
    simp (disch := omega) only [t_thr T, bsome, t_ck T, e1, e1', w32_id, if_pos]
    unfold s_X11_join_b27
    simp (disch := omega) only [bsome, t_ck T, t_gI T, t_pI T, t_gJ T, t_pJ T, tR_world T, tA_world T, tU_world T, t_if0, w32_id, if_pos, h0]
    unfold s_X11_join_b51
    simp (disch := omega) only [t_ck T, bsome, t_if1 T, w32_id, if_neg, thr_thr]
    exact ⟨_, _, _, rfl, HK.refl, HJ.refl⟩
end TS
