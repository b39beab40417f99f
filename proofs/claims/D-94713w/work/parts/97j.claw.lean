/-! the law's cases, one by one -/
set_option maxRecDepth 100000
section CLw
variable {sh : Sh} {I J : Nat → Int → Int} {x c b n : Nat} {xs : Nat → Int32} {i : Int}
/-- on to the next call -/
def NXT (y : Option ((Int × Me) ⊕ (Int × Me))) (x c : Nat) (i : Int) : Prop := ∃ (sh' : Sh) (I' J' : Nat → Int → Int), y = some (.inl (i + 6, (sh', I', J'))) ∧ IV sh' I' x c
theorem gX_m {j : Int} (h0 : 0 ≤ j) (h1 : j < n) (h2 : n ≤ 384) : ∃ v, gX b n xs b j = some v ∧ i32 v := by
  have e := w32_id (x := j) (by omega) (by omega)
  refine ⟨(xs j.toNat).toInt, ?_, Int32.le_toInt _, Int32.toInt_lt _⟩
  unfold gX
  rw [e, if_pos ⟨rfl, h0, h1⟩]
theorem th_m {m : Nat} (T : TL sh m) : s_X11_thrown m (sh, I, J) = some (I m 0, (sh, I, J)) := by
  unfold s_X11_thrown
  rw [t_gI T, bsome]
theorem bl_358 (V : IV sh I x (c + 1)) (h0 : 0 ≤ i) (h1 : i + 6 ≤ n) (h2 : n ≤ 384) : NXT (s_L_law_b358 b n xs b x (x + 678) (x + 694) i (sh, I, J)) x c i := by
  unfold s_L_law_b358 s_X0_form
  rw [l_ck V.L, bsome]
  rcases qc_form (J := J) V  with ⟨r, sh1, I1, J1, e1, ar, h⟩ | ⟨k, cd, a, sh1, I1, J1, e1, hk, r, I2, J2, e2, e3, V2⟩
  · rw [e1, xb_r]
    dsimp only
    obtain ⟨I2, J3, e2, e3, e4, V2⟩ := h (up1 J1 (x + 694) (upz (J1 (x + 694)) 0 (w32 r)))
    have T1 := V2.T
    replace e2 : s_X11_form (x + 678)  (sh1, I1, up1 J1 (x + 694) (upz (J1 (x + 694)) 0 (w32 r))) = some (r, (sh1, I2, J3)) := e2
    rw [uJ_m ar (by decide) (by decide), bsome, xb_r]
    dsimp only
    rw [t_ck T1, bsome, e2, bsome]
    dsimp only
    rw [t_ck T1, bsome, th_m T1, bsome]
    dsimp only
    rw [e4, if_pos rfl, if_pos (show w32 0 = 0 from rfl), aJ_m ar (by decide) (by decide), bsome, e3, up1_s, upz_s, if_pos rfl]
    exact ⟨_, _, _, rfl, V2⟩
  · have T1 := V2.T
    replace e2 : s_X11_form (x + 678)  (sh1, I1, J1) = some (r, (sh1, I2, J2)) := e2
    rcases hk with ⟨hk, hc⟩ | ⟨hk, hn, hc⟩
    · subst hk; subst hc
      rw [e1, xb_l, if_pos rfl, xb_r]
      dsimp only
      rw [t_ck T1, bsome, e2, bsome]
      dsimp only
      rw [t_ck T1, bsome, th_m T1, bsome]
      dsimp only
      rw [e3, if_pos rfl, if_neg (by decide)]
      exact ⟨_, _, _, rfl, V2⟩
    · subst hk; subst hc
      rw [e1, xb_l, if_neg (show ¬ (2 : Nat) = 0 by decide), if_pos rfl, xb_r]
      dsimp only
      rw [t_ck T1, bsome, e2, bsome]
      dsimp only
      rw [t_ck T1, bsome, th_m T1, bsome]
      dsimp only
      rw [e3, if_pos rfl, if_neg (by decide)]
      exact ⟨_, _, _, rfl, V2⟩
theorem bl_402 (V : IV sh I x (c + 1)) (h0 : 0 ≤ i) (h1 : i + 6 ≤ n) (h2 : n ≤ 384) : NXT (s_L_law_b402 b n xs b x (x + 678) (x + 694) i (sh, I, J)) x c i := by
  obtain ⟨v1, g1, i1⟩ := gX_m (b := b) (n := n) (xs := xs) (j := i + 1) (by omega) (by omega) h2
  obtain ⟨v2, g2, i2⟩ := gX_m (b := b) (n := n) (xs := xs) (j := i + 2) (by omega) (by omega) h2
  obtain ⟨v3, g3, i3⟩ := gX_m (b := b) (n := n) (xs := xs) (j := i + 3) (by omega) (by omega) h2
  obtain ⟨v4, g4, i4⟩ := gX_m (b := b) (n := n) (xs := xs) (j := i + 4) (by omega) (by omega) h2
  unfold s_L_law_b402 s_X0_table
  rw [g1, bsome, g2, bsome, g3, bsome, g4, bsome, l_ck V.L, bsome]
  rcases qc_table (J := J) V i1 i2 i3 i4 with ⟨r, sh1, I1, J1, e1, ar, h⟩ | ⟨k, cd, a, sh1, I1, J1, e1, hk, r, I2, J2, e2, e3, V2⟩
  · rw [e1, xb_r]
    dsimp only
    obtain ⟨I2, J3, e2, e3, e4, V2⟩ := h (up1 J1 (x + 694) (upz (J1 (x + 694)) 0 (w32 r)))
    have T1 := V2.T
    replace e2 : s_X11_table (x + 678) v1 v2 v3 v4 (sh1, I1, up1 J1 (x + 694) (upz (J1 (x + 694)) 0 (w32 r))) = some (r, (sh1, I2, J3)) := e2
    rw [uJ_m ar (by decide) (by decide), bsome, xb_r]
    dsimp only
    rw [bsome, bsome, bsome, bsome, t_ck T1, bsome, e2, bsome]
    dsimp only
    rw [t_ck T1, bsome, th_m T1, bsome]
    dsimp only
    rw [e4, if_pos rfl, if_pos (show w32 0 = 0 from rfl), aJ_m ar (by decide) (by decide), bsome, e3, up1_s, upz_s, if_pos rfl]
    exact ⟨_, _, _, rfl, V2⟩
  · have T1 := V2.T
    replace e2 : s_X11_table (x + 678) v1 v2 v3 v4 (sh1, I1, J1) = some (r, (sh1, I2, J2)) := e2
    rcases hk with ⟨hk, hc⟩ | ⟨hk, hn, hc⟩
    · subst hk; subst hc
      rw [e1, xb_l, if_pos rfl, xb_r]
      dsimp only
      rw [bsome, bsome, bsome, bsome, t_ck T1, bsome, e2, bsome]
      dsimp only
      rw [t_ck T1, bsome, th_m T1, bsome]
      dsimp only
      rw [e3, if_pos rfl, if_neg (by decide)]
      exact ⟨_, _, _, rfl, V2⟩
    · subst hk; subst hc
      rw [e1, xb_l, if_neg (show ¬ (2 : Nat) = 0 by decide), if_pos rfl, xb_r]
      dsimp only
      rw [bsome, bsome, bsome, bsome, t_ck T1, bsome, e2, bsome]
      dsimp only
      rw [t_ck T1, bsome, th_m T1, bsome]
      dsimp only
      rw [e3, if_pos rfl, if_neg (by decide)]
      exact ⟨_, _, _, rfl, V2⟩
theorem bl_494 (V : IV sh I x (c + 1)) (h0 : 0 ≤ i) (h1 : i + 6 ≤ n) (h2 : n ≤ 384) : NXT (s_L_law_b494 b n xs b x (x + 678) (x + 694) i (sh, I, J)) x c i := by
  unfold s_L_law_b494 s_X0_signs
  rw [l_ck V.L, bsome]
  rcases qc_signs (J := J) V  with ⟨r, sh1, I1, J1, e1, ar, h⟩ | ⟨k, cd, a, sh1, I1, J1, e1, hk, r, I2, J2, e2, e3, V2⟩
  · rw [e1, xb_r]
    dsimp only
    obtain ⟨I2, J3, e2, e3, e4, V2⟩ := h (up1 J1 (x + 694) (upz (J1 (x + 694)) 0 (w32 r)))
    have T1 := V2.T
    replace e2 : s_X11_signs (x + 678)  (sh1, I1, up1 J1 (x + 694) (upz (J1 (x + 694)) 0 (w32 r))) = some (r, (sh1, I2, J3)) := e2
    rw [uJ_m ar (by decide) (by decide), bsome, xb_r]
    dsimp only
    rw [t_ck T1, bsome, e2, bsome]
    dsimp only
    rw [t_ck T1, bsome, th_m T1, bsome]
    dsimp only
    rw [e4, if_pos rfl, if_pos (show w32 0 = 0 from rfl), aJ_m ar (by decide) (by decide), bsome, e3, up1_s, upz_s, if_pos rfl]
    exact ⟨_, _, _, rfl, V2⟩
  · have T1 := V2.T
    replace e2 : s_X11_signs (x + 678)  (sh1, I1, J1) = some (r, (sh1, I2, J2)) := e2
    rcases hk with ⟨hk, hc⟩ | ⟨hk, hn, hc⟩
    · subst hk; subst hc
      rw [e1, xb_l, if_pos rfl, xb_r]
      dsimp only
      rw [t_ck T1, bsome, e2, bsome]
      dsimp only
      rw [t_ck T1, bsome, th_m T1, bsome]
      dsimp only
      rw [e3, if_pos rfl, if_neg (by decide)]
      exact ⟨_, _, _, rfl, V2⟩
    · subst hk; subst hc
      rw [e1, xb_l, if_neg (show ¬ (2 : Nat) = 0 by decide), if_pos rfl, xb_r]
      dsimp only
      rw [t_ck T1, bsome, e2, bsome]
      dsimp only
      rw [t_ck T1, bsome, th_m T1, bsome]
      dsimp only
      rw [e3, if_pos rfl, if_neg (by decide)]
      exact ⟨_, _, _, rfl, V2⟩
theorem bl_551 (V : IV sh I x (c + 1)) (h0 : 0 ≤ i) (h1 : i + 6 ≤ n) (h2 : n ≤ 384) : NXT (s_L_law_b551 b n xs b x (x + 678) (x + 694) i (sh, I, J)) x c i := by
  obtain ⟨v1, g1, i1⟩ := gX_m (b := b) (n := n) (xs := xs) (j := i + 1) (by omega) (by omega) h2
  obtain ⟨v2, g2, i2⟩ := gX_m (b := b) (n := n) (xs := xs) (j := i + 2) (by omega) (by omega) h2
  unfold s_L_law_b551 s_X0_look
  rw [g1, bsome, g2, bsome, l_ck V.L, bsome]
  rcases qc_look (J := J) V i1 i2 with ⟨r, sh1, I1, J1, e1, ar, h⟩ | ⟨k, cd, a, sh1, I1, J1, e1, hk, r, I2, J2, e2, e3, V2⟩
  · rw [e1, xb_r]
    dsimp only
    obtain ⟨I2, J3, e2, e3, e4, V2⟩ := h (up1 J1 (x + 694) (upz (J1 (x + 694)) 0 (w32 r)))
    have T1 := V2.T
    replace e2 : s_X11_look (x + 678) v1 v2 (sh1, I1, up1 J1 (x + 694) (upz (J1 (x + 694)) 0 (w32 r))) = some (r, (sh1, I2, J3)) := e2
    rw [uJ_m ar (by decide) (by decide), bsome, xb_r]
    dsimp only
    rw [bsome, bsome, t_ck T1, bsome, e2, bsome]
    dsimp only
    rw [t_ck T1, bsome, th_m T1, bsome]
    dsimp only
    rw [e4, if_pos rfl, if_pos (show w32 0 = 0 from rfl), aJ_m ar (by decide) (by decide), bsome, e3, up1_s, upz_s, if_pos rfl]
    exact ⟨_, _, _, rfl, V2⟩
  · have T1 := V2.T
    replace e2 : s_X11_look (x + 678) v1 v2 (sh1, I1, J1) = some (r, (sh1, I2, J2)) := e2
    rcases hk with ⟨hk, hc⟩ | ⟨hk, hn, hc⟩
    · subst hk; subst hc
      rw [e1, xb_l, if_pos rfl, xb_r]
      dsimp only
      rw [bsome, bsome, t_ck T1, bsome, e2, bsome]
      dsimp only
      rw [t_ck T1, bsome, th_m T1, bsome]
      dsimp only
      rw [e3, if_pos rfl, if_neg (by decide)]
      exact ⟨_, _, _, rfl, V2⟩
    · exact absurd rfl hn
theorem bl_619 (V : IV sh I x (c + 1)) (h0 : 0 ≤ i) (h1 : i + 6 ≤ n) (h2 : n ≤ 384) : NXT (s_L_law_b619 b n xs b x (x + 678) (x + 694) i (sh, I, J)) x c i := by
  obtain ⟨v1, g1, i1⟩ := gX_m (b := b) (n := n) (xs := xs) (j := i + 1) (by omega) (by omega) h2
  obtain ⟨v2, g2, i2⟩ := gX_m (b := b) (n := n) (xs := xs) (j := i + 2) (by omega) (by omega) h2
  obtain ⟨v3, g3, i3⟩ := gX_m (b := b) (n := n) (xs := xs) (j := i + 3) (by omega) (by omega) h2
  unfold s_L_law_b619 s_X0_at
  rw [g1, bsome, g2, bsome, g3, bsome, l_ck V.L, bsome]
  rcases qc_at (J := J) V i1 i2 i3 with ⟨r, sh1, I1, J1, e1, ar, h⟩ | ⟨k, cd, a, sh1, I1, J1, e1, hk, r, I2, J2, e2, e3, V2⟩
  · rw [e1, xb_r]
    dsimp only
    obtain ⟨I2, J3, e2, e3, e4, V2⟩ := h (up1 J1 (x + 694) (upz (J1 (x + 694)) 0 (w32 r)))
    have T1 := V2.T
    replace e2 : s_X11_at (x + 678) v1 v2 v3 (sh1, I1, up1 J1 (x + 694) (upz (J1 (x + 694)) 0 (w32 r))) = some (r, (sh1, I2, J3)) := e2
    rw [uJ_m ar (by decide) (by decide), bsome, xb_r]
    dsimp only
    rw [bsome, bsome, bsome, t_ck T1, bsome, e2, bsome]
    dsimp only
    rw [t_ck T1, bsome, th_m T1, bsome]
    dsimp only
    rw [e4, if_pos rfl, if_pos (show w32 0 = 0 from rfl), aJ_m ar (by decide) (by decide), bsome, e3, up1_s, upz_s, if_pos rfl]
    exact ⟨_, _, _, rfl, V2⟩
  · have T1 := V2.T
    replace e2 : s_X11_at (x + 678) v1 v2 v3 (sh1, I1, J1) = some (r, (sh1, I2, J2)) := e2
    rcases hk with ⟨hk, hc⟩ | ⟨hk, hn, hc⟩
    · subst hk; subst hc
      rw [e1, xb_l, if_pos rfl, xb_r]
      dsimp only
      rw [bsome, bsome, bsome, t_ck T1, bsome, e2, bsome]
      dsimp only
      rw [t_ck T1, bsome, th_m T1, bsome]
      dsimp only
      rw [e3, if_pos rfl, if_neg (by decide)]
      exact ⟨_, _, _, rfl, V2⟩
    · exact absurd rfl hn
theorem bl_699 (V : IV sh I x (c + 1)) (h0 : 0 ≤ i) (h1 : i + 6 ≤ n) (h2 : n ≤ 384) : NXT (s_L_law_b699 b n xs b x (x + 678) (x + 694) i (sh, I, J)) x c i := by
  obtain ⟨v1, g1, i1⟩ := gX_m (b := b) (n := n) (xs := xs) (j := i + 1) (by omega) (by omega) h2
  unfold s_L_law_b699 s_X0_det
  rw [g1, bsome, l_ck V.L, bsome]
  rcases qc_det (J := J) V i1 with ⟨r, sh1, I1, J1, e1, ar, h⟩ | ⟨k, cd, a, sh1, I1, J1, e1, hk, r, I2, J2, e2, e3, V2⟩
  · rw [e1, xb_r]
    dsimp only
    obtain ⟨I2, J3, e2, e3, e4, V2⟩ := h (up1 J1 (x + 694) (upz (J1 (x + 694)) 0 (w32 r)))
    have T1 := V2.T
    replace e2 : s_X11_det (x + 678) v1 (sh1, I1, up1 J1 (x + 694) (upz (J1 (x + 694)) 0 (w32 r))) = some (r, (sh1, I2, J3)) := e2
    rw [uJ_m ar (by decide) (by decide), bsome, xb_r]
    dsimp only
    rw [bsome, t_ck T1, bsome, e2, bsome]
    dsimp only
    rw [t_ck T1, bsome, th_m T1, bsome]
    dsimp only
    rw [e4, if_pos rfl, if_pos (show w32 0 = 0 from rfl), aJ_m ar (by decide) (by decide), bsome, e3, up1_s, upz_s, if_pos rfl]
    exact ⟨_, _, _, rfl, V2⟩
  · have T1 := V2.T
    replace e2 : s_X11_det (x + 678) v1 (sh1, I1, J1) = some (r, (sh1, I2, J2)) := e2
    rcases hk with ⟨hk, hc⟩ | ⟨hk, hn, hc⟩
    · subst hk; subst hc
      rw [e1, xb_l, if_pos rfl, xb_r]
      dsimp only
      rw [bsome, t_ck T1, bsome, e2, bsome]
      dsimp only
      rw [t_ck T1, bsome, th_m T1, bsome]
      dsimp only
      rw [e3, if_pos rfl, if_neg (by decide)]
      exact ⟨_, _, _, rfl, V2⟩
    · exact absurd rfl hn
theorem bl_755 (V : IV sh I x (c + 1)) (h0 : 0 ≤ i) (h1 : i + 6 ≤ n) (h2 : n ≤ 384) : NXT (s_L_law_b755 b n xs b x (x + 678) (x + 694) i (sh, I, J)) x c i := by
  obtain ⟨v1, g1, i1⟩ := gX_m (b := b) (n := n) (xs := xs) (j := i + 1) (by omega) (by omega) h2
  obtain ⟨v2, g2, i2⟩ := gX_m (b := b) (n := n) (xs := xs) (j := i + 2) (by omega) (by omega) h2
  unfold s_L_law_b755 s_X0_mix
  rw [g1, bsome, g2, bsome, l_ck V.L, bsome]
  rcases qc_mix (J := J) V i1 i2 with ⟨r, sh1, I1, J1, e1, ar, h⟩ | ⟨k, cd, a, sh1, I1, J1, e1, hk, r, I2, J2, e2, e3, V2⟩
  · rw [e1, xb_r]
    dsimp only
    by_cases hz : w32 r = 0
    · obtain ⟨I2, J3, e2, e3, e4, V2⟩ := h (up1 J1 (x + 694) (upz (J1 (x + 694)) 0 (0)))
      have T1 := V2.T
      replace e2 : s_X11_mix (x + 678) v1 v2 (sh1, I1, up1 J1 (x + 694) (upz (J1 (x + 694)) 0 (0))) = some (r, (sh1, I2, J3)) := e2
      rw [if_pos hz, uJ_m ar (by decide) (by decide), bsome, xb_r]
      dsimp only
      rw [bsome, bsome, t_ck T1, bsome, e2, bsome]
      dsimp only
      rw [t_ck T1, bsome, th_m T1, bsome]
      dsimp only
      rw [e4, if_pos rfl, if_pos (show w32 0 = 0 from rfl), aJ_m ar (by decide) (by decide), bsome, if_pos hz, e3, up1_s, upz_s, if_pos rfl]
      exact ⟨_, _, _, rfl, V2⟩
    · obtain ⟨I2, J3, e2, e3, e4, V2⟩ := h (up1 J1 (x + 694) (upz (J1 (x + 694)) 0 (1)))
      have T1 := V2.T
      replace e2 : s_X11_mix (x + 678) v1 v2 (sh1, I1, up1 J1 (x + 694) (upz (J1 (x + 694)) 0 (1))) = some (r, (sh1, I2, J3)) := e2
      rw [if_neg hz, uJ_m ar (by decide) (by decide), bsome, xb_r]
      dsimp only
      rw [bsome, bsome, t_ck T1, bsome, e2, bsome]
      dsimp only
      rw [t_ck T1, bsome, th_m T1, bsome]
      dsimp only
      rw [e4, if_pos rfl, if_pos (show w32 0 = 0 from rfl), aJ_m ar (by decide) (by decide), bsome, if_neg hz, e3, up1_s, upz_s, if_pos rfl]
      exact ⟨_, _, _, rfl, V2⟩
  · have T1 := V2.T
    replace e2 : s_X11_mix (x + 678) v1 v2 (sh1, I1, J1) = some (r, (sh1, I2, J2)) := e2
    rcases hk with ⟨hk, hc⟩ | ⟨hk, hn, hc⟩
    · subst hk; subst hc
      rw [e1, xb_l, if_pos rfl, xb_r]
      dsimp only
      rw [bsome, bsome, t_ck T1, bsome, e2, bsome]
      dsimp only
      rw [t_ck T1, bsome, th_m T1, bsome]
      dsimp only
      rw [e3, if_pos rfl, if_neg (by decide)]
      exact ⟨_, _, _, rfl, V2⟩
    · exact absurd rfl hn
theorem bl_856 (V : IV sh I x (c + 1)) (h0 : 0 ≤ i) (h1 : i + 6 ≤ n) (h2 : n ≤ 384) : NXT (s_L_law_b856 b n xs b x (x + 678) (x + 694) i (sh, I, J)) x c i := by
  obtain ⟨v1, g1, i1⟩ := gX_m (b := b) (n := n) (xs := xs) (j := i + 1) (by omega) (by omega) h2
  obtain ⟨v2, g2, i2⟩ := gX_m (b := b) (n := n) (xs := xs) (j := i + 2) (by omega) (by omega) h2
  obtain ⟨v3, g3, i3⟩ := gX_m (b := b) (n := n) (xs := xs) (j := i + 3) (by omega) (by omega) h2
  unfold s_L_law_b856 s_X0_value
  rw [g1, bsome, g2, bsome, g3, bsome, l_ck V.L, bsome]
  rcases qc_value (J := J) V i1 i2 i3 with ⟨r, sh1, I1, J1, e1, ar, h⟩ | ⟨k, cd, a, sh1, I1, J1, e1, hk, r, I2, J2, e2, e3, V2⟩
  · rw [e1, xb_r]
    dsimp only
    obtain ⟨I2, J3, e2, e3, e4, V2⟩ := h (up1 J1 (x + 694) (upz (J1 (x + 694)) 0 (w32 r)))
    have T1 := V2.T
    replace e2 : s_X11_value (x + 678) v1 v2 v3 (sh1, I1, up1 J1 (x + 694) (upz (J1 (x + 694)) 0 (w32 r))) = some (r, (sh1, I2, J3)) := e2
    rw [uJ_m ar (by decide) (by decide), bsome, xb_r]
    dsimp only
    rw [bsome, bsome, bsome, t_ck T1, bsome, e2, bsome]
    dsimp only
    rw [t_ck T1, bsome, th_m T1, bsome]
    dsimp only
    rw [e4, if_pos rfl, if_pos (show w32 0 = 0 from rfl), aJ_m ar (by decide) (by decide), bsome, e3, up1_s, upz_s, if_pos rfl]
    exact ⟨_, _, _, rfl, V2⟩
  · have T1 := V2.T
    replace e2 : s_X11_value (x + 678) v1 v2 v3 (sh1, I1, J1) = some (r, (sh1, I2, J2)) := e2
    rcases hk with ⟨hk, hc⟩ | ⟨hk, hn, hc⟩
    · subst hk; subst hc
      rw [e1, xb_l, if_pos rfl, xb_r]
      dsimp only
      rw [bsome, bsome, bsome, t_ck T1, bsome, e2, bsome]
      dsimp only
      rw [t_ck T1, bsome, th_m T1, bsome]
      dsimp only
      rw [e3, if_pos rfl, if_neg (by decide)]
      exact ⟨_, _, _, rfl, V2⟩
    · exact absurd rfl hn
theorem bl_1020 (V : IV sh I x (c + 1)) (h0 : 0 ≤ i) (h1 : i + 6 ≤ n) (h2 : n ≤ 384) : NXT (s_L_law_b1020 b n xs b x (x + 678) (x + 694) i (sh, I, J)) x c i := by
  obtain ⟨v1, g1, i1⟩ := gX_m (b := b) (n := n) (xs := xs) (j := i + 1) (by omega) (by omega) h2
  obtain ⟨v2, g2, i2⟩ := gX_m (b := b) (n := n) (xs := xs) (j := i + 2) (by omega) (by omega) h2
  obtain ⟨v3, g3, i3⟩ := gX_m (b := b) (n := n) (xs := xs) (j := i + 3) (by omega) (by omega) h2
  unfold s_L_law_b1020 s_X0_stays
  rw [g1, bsome, g2, bsome, g3, bsome, l_ck V.L, bsome]
  rcases qc_stays (J := J) V i1 i2 i3 with ⟨r, sh1, I1, J1, e1, ar, h⟩ | ⟨k, cd, a, sh1, I1, J1, e1, hk, r, I2, J2, e2, e3, V2⟩
  · rw [e1, xb_r]
    dsimp only
    by_cases hz : w32 r = 0
    · obtain ⟨I2, J3, e2, e3, e4, V2⟩ := h (up1 J1 (x + 694) (upz (J1 (x + 694)) 0 (0)))
      have T1 := V2.T
      replace e2 : s_X11_stays (x + 678) v1 v2 v3 (sh1, I1, up1 J1 (x + 694) (upz (J1 (x + 694)) 0 (0))) = some (r, (sh1, I2, J3)) := e2
      rw [if_pos hz, uJ_m ar (by decide) (by decide), bsome, xb_r]
      dsimp only
      rw [bsome, bsome, bsome, t_ck T1, bsome, e2, bsome]
      dsimp only
      rw [t_ck T1, bsome, th_m T1, bsome]
      dsimp only
      rw [e4, if_pos rfl, if_pos (show w32 0 = 0 from rfl), aJ_m ar (by decide) (by decide), bsome, if_pos hz, e3, up1_s, upz_s, if_pos rfl]
      exact ⟨_, _, _, rfl, V2⟩
    · obtain ⟨I2, J3, e2, e3, e4, V2⟩ := h (up1 J1 (x + 694) (upz (J1 (x + 694)) 0 (1)))
      have T1 := V2.T
      replace e2 : s_X11_stays (x + 678) v1 v2 v3 (sh1, I1, up1 J1 (x + 694) (upz (J1 (x + 694)) 0 (1))) = some (r, (sh1, I2, J3)) := e2
      rw [if_neg hz, uJ_m ar (by decide) (by decide), bsome, xb_r]
      dsimp only
      rw [bsome, bsome, bsome, t_ck T1, bsome, e2, bsome]
      dsimp only
      rw [t_ck T1, bsome, th_m T1, bsome]
      dsimp only
      rw [e4, if_pos rfl, if_pos (show w32 0 = 0 from rfl), aJ_m ar (by decide) (by decide), bsome, if_neg hz, e3, up1_s, upz_s, if_pos rfl]
      exact ⟨_, _, _, rfl, V2⟩
  · have T1 := V2.T
    replace e2 : s_X11_stays (x + 678) v1 v2 v3 (sh1, I1, J1) = some (r, (sh1, I2, J2)) := e2
    rcases hk with ⟨hk, hc⟩ | ⟨hk, hn, hc⟩
    · subst hk; subst hc
      rw [e1, xb_l, if_pos rfl, xb_r]
      dsimp only
      rw [bsome, bsome, bsome, t_ck T1, bsome, e2, bsome]
      dsimp only
      rw [t_ck T1, bsome, th_m T1, bsome]
      dsimp only
      rw [e3, if_pos rfl, if_neg (by decide)]
      exact ⟨_, _, _, rfl, V2⟩
    · exact absurd rfl hn
theorem bl_1107 (V : IV sh I x (c + 1)) (h0 : 0 ≤ i) (h1 : i + 6 ≤ n) (h2 : n ≤ 384) : NXT (s_L_law_b1107 b n xs b x (x + 678) (x + 694) i (sh, I, J)) x c i := by
  obtain ⟨v1, g1, i1⟩ := gX_m (b := b) (n := n) (xs := xs) (j := i + 1) (by omega) (by omega) h2
  obtain ⟨v2, g2, i2⟩ := gX_m (b := b) (n := n) (xs := xs) (j := i + 2) (by omega) (by omega) h2
  obtain ⟨v3, g3, i3⟩ := gX_m (b := b) (n := n) (xs := xs) (j := i + 3) (by omega) (by omega) h2
  unfold s_L_law_b1107 s_X0_agree
  rw [g1, bsome, g2, bsome, g3, bsome, l_ck V.L, bsome]
  rcases qc_agree (J := J) V i1 i2 i3 with ⟨r, sh1, I1, J1, e1, ar, h⟩ | ⟨k, cd, a, sh1, I1, J1, e1, hk, r, I2, J2, e2, e3, V2⟩
  · rw [e1, xb_r]
    dsimp only
    obtain ⟨I2, J3, e2, e3, e4, V2⟩ := h (up1 J1 (x + 694) (upz (J1 (x + 694)) 0 (w32 r)))
    have T1 := V2.T
    replace e2 : s_X11_agree (x + 678) v1 v2 v3 (sh1, I1, up1 J1 (x + 694) (upz (J1 (x + 694)) 0 (w32 r))) = some (r, (sh1, I2, J3)) := e2
    rw [uJ_m ar (by decide) (by decide), bsome, xb_r]
    dsimp only
    rw [bsome, bsome, bsome, t_ck T1, bsome, e2, bsome]
    dsimp only
    rw [t_ck T1, bsome, th_m T1, bsome]
    dsimp only
    rw [e4, if_pos rfl, if_pos (show w32 0 = 0 from rfl), aJ_m ar (by decide) (by decide), bsome, e3, up1_s, upz_s, if_pos rfl]
    exact ⟨_, _, _, rfl, V2⟩
  · have T1 := V2.T
    replace e2 : s_X11_agree (x + 678) v1 v2 v3 (sh1, I1, J1) = some (r, (sh1, I2, J2)) := e2
    rcases hk with ⟨hk, hc⟩ | ⟨hk, hn, hc⟩
    · subst hk; subst hc
      rw [e1, xb_l, if_pos rfl, xb_r]
      dsimp only
      rw [bsome, bsome, bsome, t_ck T1, bsome, e2, bsome]
      dsimp only
      rw [t_ck T1, bsome, th_m T1, bsome]
      dsimp only
      rw [e3, if_pos rfl, if_neg (by decide)]
      exact ⟨_, _, _, rfl, V2⟩
    · subst hk; subst hc
      rw [e1, xb_l, if_neg (show ¬ (0 : Nat) = 3 by decide), if_pos rfl, xb_r]
      dsimp only
      rw [bsome, bsome, bsome, t_ck T1, bsome, e2, bsome]
      dsimp only
      rw [t_ck T1, bsome, th_m T1, bsome]
      dsimp only
      rw [e3, if_pos rfl, if_neg (by decide)]
      exact ⟨_, _, _, rfl, V2⟩
theorem bl_1187 (V : IV sh I x (c + 1)) (h0 : 0 ≤ i) (h1 : i + 6 ≤ n) (h2 : n ≤ 384) : NXT (s_L_law_b1187 b n xs b x (x + 678) (x + 694) i (sh, I, J)) x c i := by
  obtain ⟨v1, g1, i1⟩ := gX_m (b := b) (n := n) (xs := xs) (j := i + 1) (by omega) (by omega) h2
  obtain ⟨v2, g2, i2⟩ := gX_m (b := b) (n := n) (xs := xs) (j := i + 2) (by omega) (by omega) h2
  obtain ⟨v3, g3, i3⟩ := gX_m (b := b) (n := n) (xs := xs) (j := i + 3) (by omega) (by omega) h2
  unfold s_L_law_b1187 s_X0_count
  rw [g1, bsome, g2, bsome, g3, bsome, l_ck V.L, bsome]
  rcases qc_count (J := J) V i1 i2 i3 with ⟨r, sh1, I1, J1, e1, ar, h⟩ | ⟨k, cd, a, sh1, I1, J1, e1, hk, r, I2, J2, e2, e3, V2⟩
  · rw [e1, xb_r]
    dsimp only
    obtain ⟨I2, J3, e2, e3, e4, V2⟩ := h (up1 J1 (x + 694) (upz (J1 (x + 694)) 0 (r)))
    have T1 := V2.T
    replace e2 : s_X11_count (x + 678) v1 v2 v3 (sh1, I1, up1 J1 (x + 694) (upz (J1 (x + 694)) 0 (r))) = some (r, (sh1, I2, J3)) := e2
    rw [uJ_m ar (by decide) (by decide), bsome, xb_r]
    dsimp only
    rw [bsome, bsome, bsome, t_ck T1, bsome, e2, bsome]
    dsimp only
    rw [t_ck T1, bsome, th_m T1, bsome]
    dsimp only
    rw [e4, if_pos rfl, if_pos (show w32 0 = 0 from rfl), aJ_m ar (by decide) (by decide), bsome, e3, up1_s, upz_s, if_pos rfl]
    exact ⟨_, _, _, rfl, V2⟩
  · have T1 := V2.T
    replace e2 : s_X11_count (x + 678) v1 v2 v3 (sh1, I1, J1) = some (r, (sh1, I2, J2)) := e2
    rcases hk with ⟨hk, hc⟩ | ⟨hk, hn, hc⟩
    · subst hk; subst hc
      rw [e1, xb_l, if_pos rfl, xb_r]
      dsimp only
      rw [bsome, bsome, bsome, t_ck T1, bsome, e2, bsome]
      dsimp only
      rw [t_ck T1, bsome, th_m T1, bsome]
      dsimp only
      rw [e3, if_pos rfl, if_neg (by decide)]
      exact ⟨_, _, _, rfl, V2⟩
    · exact absurd rfl hn
theorem bl_1266 (V : IV sh I x (c + 1)) (h0 : 0 ≤ i) (h1 : i + 6 ≤ n) (h2 : n ≤ 384) : NXT (s_L_law_b1266 b n xs b x (x + 678) (x + 694) i (sh, I, J)) x c i := by
  obtain ⟨v1, g1, i1⟩ := gX_m (b := b) (n := n) (xs := xs) (j := i + 1) (by omega) (by omega) h2
  obtain ⟨v2, g2, i2⟩ := gX_m (b := b) (n := n) (xs := xs) (j := i + 2) (by omega) (by omega) h2
  obtain ⟨v3, g3, i3⟩ := gX_m (b := b) (n := n) (xs := xs) (j := i + 3) (by omega) (by omega) h2
  unfold s_L_law_b1266 s_X0_span
  rw [g1, bsome, g2, bsome, g3, bsome, l_ck V.L, bsome]
  rcases qc_span (J := J) V (s := v1) (u := v3) i2 with ⟨r, sh1, I1, J1, e1, ar, h⟩ | ⟨k, cd, a, sh1, I1, J1, e1, hk, r, I2, J2, e2, e3, V2⟩
  · rw [e1, xb_r]
    dsimp only
    obtain ⟨I2, J3, e2, e3, e4, V2⟩ := h (up1 J1 (x + 694) (upz (J1 (x + 694)) 0 (w32 r)))
    have T1 := V2.T
    replace e2 : s_X11_span (x + 678) v1 v2 v3 (sh1, I1, up1 J1 (x + 694) (upz (J1 (x + 694)) 0 (w32 r))) = some (r, (sh1, I2, J3)) := e2
    rw [uJ_m ar (by decide) (by decide), bsome, xb_r]
    dsimp only
    rw [bsome, bsome, bsome, t_ck T1, bsome, e2, bsome]
    dsimp only
    rw [t_ck T1, bsome, th_m T1, bsome]
    dsimp only
    rw [e4, if_pos rfl, if_pos (show w32 0 = 0 from rfl), aJ_m ar (by decide) (by decide), bsome, e3, up1_s, upz_s, if_pos rfl]
    exact ⟨_, _, _, rfl, V2⟩
  · have T1 := V2.T
    replace e2 : s_X11_span (x + 678) v1 v2 v3 (sh1, I1, J1) = some (r, (sh1, I2, J2)) := e2
    rcases hk with ⟨hk, hc⟩ | ⟨hk, hn, hc⟩
    · subst hk; subst hc
      rw [e1, xb_l, if_pos rfl, xb_r]
      dsimp only
      rw [bsome, bsome, bsome, t_ck T1, bsome, e2, bsome]
      dsimp only
      rw [t_ck T1, bsome, th_m T1, bsome]
      dsimp only
      rw [e3, if_pos rfl, if_neg (by decide)]
      exact ⟨_, _, _, rfl, V2⟩
    · exact absurd rfl hn
theorem bl_1346 (V : IV sh I x (c + 1)) (h0 : 0 ≤ i) (h1 : i + 6 ≤ n) (h2 : n ≤ 384) : NXT (s_L_law_b1346 b n xs b x (x + 678) (x + 694) i (sh, I, J)) x c i := by
  obtain ⟨v1, g1, i1⟩ := gX_m (b := b) (n := n) (xs := xs) (j := i + 1) (by omega) (by omega) h2
  obtain ⟨v2, g2, i2⟩ := gX_m (b := b) (n := n) (xs := xs) (j := i + 2) (by omega) (by omega) h2
  obtain ⟨v3, g3, i3⟩ := gX_m (b := b) (n := n) (xs := xs) (j := i + 3) (by omega) (by omega) h2
  unfold s_L_law_b1346 s_X0_basis
  rw [g1, bsome, g2, bsome, g3, bsome, l_ck V.L, bsome]
  rcases qc_basis (J := J) V (s := v1) (u := v3) i2 with ⟨r, sh1, I1, J1, e1, ar, h⟩ | ⟨k, cd, a, sh1, I1, J1, e1, hk, r, I2, J2, e2, e3, V2⟩
  · rw [e1, xb_r]
    dsimp only
    obtain ⟨I2, J3, e2, e3, e4, V2⟩ := h (up1 J1 (x + 694) (upz (J1 (x + 694)) 0 (w32 r)))
    have T1 := V2.T
    replace e2 : s_X11_basis (x + 678) v1 v2 v3 (sh1, I1, up1 J1 (x + 694) (upz (J1 (x + 694)) 0 (w32 r))) = some (r, (sh1, I2, J3)) := e2
    rw [uJ_m ar (by decide) (by decide), bsome, xb_r]
    dsimp only
    rw [bsome, bsome, bsome, t_ck T1, bsome, e2, bsome]
    dsimp only
    rw [t_ck T1, bsome, th_m T1, bsome]
    dsimp only
    rw [e4, if_pos rfl, if_pos (show w32 0 = 0 from rfl), aJ_m ar (by decide) (by decide), bsome, e3, up1_s, upz_s, if_pos rfl]
    exact ⟨_, _, _, rfl, V2⟩
  · have T1 := V2.T
    replace e2 : s_X11_basis (x + 678) v1 v2 v3 (sh1, I1, J1) = some (r, (sh1, I2, J2)) := e2
    rcases hk with ⟨hk, hc⟩ | ⟨hk, hn, hc⟩
    · subst hk; subst hc
      rw [e1, xb_l, if_pos rfl, xb_r]
      dsimp only
      rw [bsome, bsome, bsome, t_ck T1, bsome, e2, bsome]
      dsimp only
      rw [t_ck T1, bsome, th_m T1, bsome]
      dsimp only
      rw [e3, if_pos rfl, if_neg (by decide)]
      exact ⟨_, _, _, rfl, V2⟩
    · exact absurd rfl hn
theorem bl_1426 (V : IV sh I x (c + 1)) (h0 : 0 ≤ i) (h1 : i + 6 ≤ n) (h2 : n ≤ 384) : NXT (s_L_law_b1426 b n xs b x (x + 678) (x + 694) i (sh, I, J)) x c i := by
  obtain ⟨v1, g1, i1⟩ := gX_m (b := b) (n := n) (xs := xs) (j := i + 1) (by omega) (by omega) h2
  unfold s_L_law_b1426 s_X0_kind
  rw [g1, bsome, l_ck V.L, bsome]
  rcases qc_kind (J := J) V i1 with ⟨r, sh1, I1, J1, e1, ar, h⟩ | ⟨k, cd, a, sh1, I1, J1, e1, hk, r, I2, J2, e2, e3, V2⟩
  · rw [e1, xb_r]
    dsimp only
    obtain ⟨I2, J3, e2, e3, e4, V2⟩ := h (up1 J1 (x + 694) (upz (J1 (x + 694)) 0 (w32 r)))
    have T1 := V2.T
    replace e2 : s_X11_kind (x + 678) v1 (sh1, I1, up1 J1 (x + 694) (upz (J1 (x + 694)) 0 (w32 r))) = some (r, (sh1, I2, J3)) := e2
    rw [uJ_m ar (by decide) (by decide), bsome, xb_r]
    dsimp only
    rw [bsome, t_ck T1, bsome, e2, bsome]
    dsimp only
    rw [t_ck T1, bsome, th_m T1, bsome]
    dsimp only
    rw [e4, if_pos rfl, if_pos (show w32 0 = 0 from rfl), aJ_m ar (by decide) (by decide), bsome, e3, up1_s, upz_s, if_pos rfl]
    exact ⟨_, _, _, rfl, V2⟩
  · have T1 := V2.T
    replace e2 : s_X11_kind (x + 678) v1 (sh1, I1, J1) = some (r, (sh1, I2, J2)) := e2
    rcases hk with ⟨hk, hc⟩ | ⟨hk, hn, hc⟩
    · subst hk; subst hc
      rw [e1, xb_l, if_pos rfl, xb_r]
      dsimp only
      rw [bsome, t_ck T1, bsome, e2, bsome]
      dsimp only
      rw [t_ck T1, bsome, th_m T1, bsome]
      dsimp only
      rw [e3, if_pos rfl, if_neg (by decide)]
      exact ⟨_, _, _, rfl, V2⟩
    · exact absurd rfl hn
theorem bl_1482 (V : IV sh I x (c + 1)) (h0 : 0 ≤ i) (h1 : i + 6 ≤ n) (h2 : n ≤ 384) : NXT (s_L_law_b1482 b n xs b x (x + 678) (x + 694) i (sh, I, J)) x c i := by
  obtain ⟨v1, g1, i1⟩ := gX_m (b := b) (n := n) (xs := xs) (j := i + 1) (by omega) (by omega) h2
  unfold s_L_law_b1482 s_X0_orbit
  rw [g1, bsome, l_ck V.L, bsome]
  rcases qc_orbit (J := J) V i1 with ⟨r, sh1, I1, J1, e1, ar, h⟩ | ⟨k, cd, a, sh1, I1, J1, e1, hk, r, I2, J2, e2, e3, V2⟩
  · rw [e1, xb_r]
    dsimp only
    obtain ⟨I2, J3, e2, e3, e4, V2⟩ := h (up1 J1 (x + 694) (upz (J1 (x + 694)) 0 (w32 r)))
    have T1 := V2.T
    replace e2 : s_X11_orbit (x + 678) v1 (sh1, I1, up1 J1 (x + 694) (upz (J1 (x + 694)) 0 (w32 r))) = some (r, (sh1, I2, J3)) := e2
    rw [uJ_m ar (by decide) (by decide), bsome, xb_r]
    dsimp only
    rw [bsome, t_ck T1, bsome, e2, bsome]
    dsimp only
    rw [t_ck T1, bsome, th_m T1, bsome]
    dsimp only
    rw [e4, if_pos rfl, if_pos (show w32 0 = 0 from rfl), aJ_m ar (by decide) (by decide), bsome, e3, up1_s, upz_s, if_pos rfl]
    exact ⟨_, _, _, rfl, V2⟩
  · have T1 := V2.T
    replace e2 : s_X11_orbit (x + 678) v1 (sh1, I1, J1) = some (r, (sh1, I2, J2)) := e2
    rcases hk with ⟨hk, hc⟩ | ⟨hk, hn, hc⟩
    · subst hk; subst hc
      rw [e1, xb_l, if_pos rfl, xb_r]
      dsimp only
      rw [bsome, t_ck T1, bsome, e2, bsome]
      dsimp only
      rw [t_ck T1, bsome, th_m T1, bsome]
      dsimp only
      rw [e3, if_pos rfl, if_neg (by decide)]
      exact ⟨_, _, _, rfl, V2⟩
    · exact absurd rfl hn
theorem bl_1538 (V : IV sh I x (c + 1)) (h0 : 0 ≤ i) (h1 : i + 6 ≤ n) (h2 : n ≤ 384) : NXT (s_L_law_b1538 b n xs b x (x + 678) (x + 694) i (sh, I, J)) x c i := by
  obtain ⟨v1, g1, i1⟩ := gX_m (b := b) (n := n) (xs := xs) (j := i + 1) (by omega) (by omega) h2
  obtain ⟨v2, g2, i2⟩ := gX_m (b := b) (n := n) (xs := xs) (j := i + 2) (by omega) (by omega) h2
  unfold s_L_law_b1538 s_X0_join
  rw [g1, bsome, g2, bsome, l_ck V.L, bsome]
  rcases qc_join (J := J) V i1 i2 with ⟨r, sh1, I1, J1, e1, ar, h⟩ | ⟨k, cd, a, sh1, I1, J1, e1, hk, r, I2, J2, e2, e3, V2⟩
  · rw [e1, xb_r]
    dsimp only
    obtain ⟨I2, J3, e2, e3, e4, V2⟩ := h (up1 J1 (x + 694) (upz (J1 (x + 694)) 0 (w32 r)))
    have T1 := V2.T
    replace e2 : s_X11_join (x + 678) v1 v2 (sh1, I1, up1 J1 (x + 694) (upz (J1 (x + 694)) 0 (w32 r))) = some (r, (sh1, I2, J3)) := e2
    rw [uJ_m ar (by decide) (by decide), bsome, xb_r]
    dsimp only
    rw [bsome, bsome, t_ck T1, bsome, e2, bsome]
    dsimp only
    rw [t_ck T1, bsome, th_m T1, bsome]
    dsimp only
    rw [e4, if_pos rfl, if_pos (show w32 0 = 0 from rfl), aJ_m ar (by decide) (by decide), bsome, e3, up1_s, upz_s, if_pos rfl]
    exact ⟨_, _, _, rfl, V2⟩
  · have T1 := V2.T
    replace e2 : s_X11_join (x + 678) v1 v2 (sh1, I1, J1) = some (r, (sh1, I2, J2)) := e2
    rcases hk with ⟨hk, hc⟩ | ⟨hk, hn, hc⟩
    · subst hk; subst hc
      rw [e1, xb_l, if_pos rfl, xb_r]
      dsimp only
      rw [bsome, bsome, t_ck T1, bsome, e2, bsome]
      dsimp only
      rw [t_ck T1, bsome, th_m T1, bsome]
      dsimp only
      rw [e3, if_pos rfl, if_neg (by decide)]
      exact ⟨_, _, _, rfl, V2⟩
    · subst hk; subst hc
      rw [e1, xb_l, if_neg (show ¬ (2 : Nat) = 3 by decide), if_pos rfl, xb_r]
      dsimp only
      rw [bsome, bsome, t_ck T1, bsome, e2, bsome]
      dsimp only
      rw [t_ck T1, bsome, th_m T1, bsome]
      dsimp only
      rw [e3, if_pos rfl, if_neg (by decide)]
      exact ⟨_, _, _, rfl, V2⟩
theorem bl_1606 (V : IV sh I x (c + 1)) (h0 : 0 ≤ i) (h1 : i + 6 ≤ n) (h2 : n ≤ 384) : NXT (s_L_law_b1606 b n xs b x (x + 678) (x + 694) i (sh, I, J)) x c i := by
  obtain ⟨v1, g1, i1⟩ := gX_m (b := b) (n := n) (xs := xs) (j := i + 1) (by omega) (by omega) h2
  unfold s_L_law_b1606 s_X0_turn
  rw [g1, bsome, l_ck V.L, bsome]
  rcases qc_turn (J := J) V i1 with ⟨r, sh1, I1, J1, e1, ar, h⟩ | ⟨k, cd, a, sh1, I1, J1, e1, hk, r, I2, J2, e2, e3, V2⟩
  · rw [e1, xb_r]
    dsimp only
    obtain ⟨I2, J3, e2, e3, e4, V2⟩ := h (up1 J1 (x + 694) (upz (J1 (x + 694)) 0 (w32 r)))
    have T1 := V2.T
    replace e2 : s_X11_turn (x + 678) v1 (sh1, I1, up1 J1 (x + 694) (upz (J1 (x + 694)) 0 (w32 r))) = some (r, (sh1, I2, J3)) := e2
    rw [uJ_m ar (by decide) (by decide), bsome, xb_r]
    dsimp only
    rw [bsome, t_ck T1, bsome, e2, bsome]
    dsimp only
    rw [t_ck T1, bsome, th_m T1, bsome]
    dsimp only
    rw [e4, if_pos rfl, if_pos (show w32 0 = 0 from rfl), aJ_m ar (by decide) (by decide), bsome, e3, up1_s, upz_s, if_pos rfl]
    exact ⟨_, _, _, rfl, V2⟩
  · have T1 := V2.T
    replace e2 : s_X11_turn (x + 678) v1 (sh1, I1, J1) = some (r, (sh1, I2, J2)) := e2
    rcases hk with ⟨hk, hc⟩ | ⟨hk, hn, hc⟩
    · subst hk; subst hc
      rw [e1, xb_l, if_pos rfl, xb_r]
      dsimp only
      rw [bsome, t_ck T1, bsome, e2, bsome]
      dsimp only
      rw [t_ck T1, bsome, th_m T1, bsome]
      dsimp only
      rw [e3, if_pos rfl, if_neg (by decide)]
      exact ⟨_, _, _, rfl, V2⟩
    · subst hk; subst hc
      rw [e1, xb_l, if_neg (show ¬ (2 : Nat) = 3 by decide), if_pos rfl, xb_r]
      dsimp only
      rw [bsome, t_ck T1, bsome, e2, bsome]
      dsimp only
      rw [t_ck T1, bsome, th_m T1, bsome]
      dsimp only
      rw [e3, if_pos rfl, if_neg (by decide)]
      exact ⟨_, _, _, rfl, V2⟩
theorem bl_1662 (V : IV sh I x (c + 1)) (h0 : 0 ≤ i) (h1 : i + 6 ≤ n) (h2 : n ≤ 384) : NXT (s_L_law_b1662 b n xs b x (x + 678) (x + 694) i (sh, I, J)) x c i := by
  obtain ⟨v1, g1, i1⟩ := gX_m (b := b) (n := n) (xs := xs) (j := i + 1) (by omega) (by omega) h2
  obtain ⟨v2, g2, i2⟩ := gX_m (b := b) (n := n) (xs := xs) (j := i + 2) (by omega) (by omega) h2
  unfold s_L_law_b1662 s_X0_told
  rw [g1, bsome, g2, bsome, l_ck V.L, bsome]
  rcases qc_told (J := J) V i1 i2 with ⟨r, sh1, I1, J1, e1, ar, h⟩ | ⟨k, cd, a, sh1, I1, J1, e1, hk, r, I2, J2, e2, e3, V2⟩
  · rw [e1, xb_r]
    dsimp only
    obtain ⟨I2, J3, e2, e3, e4, V2⟩ := h (up1 J1 (x + 694) (upz (J1 (x + 694)) 0 (w32 r)))
    have T1 := V2.T
    replace e2 : s_X11_told (x + 678) v1 v2 (sh1, I1, up1 J1 (x + 694) (upz (J1 (x + 694)) 0 (w32 r))) = some (r, (sh1, I2, J3)) := e2
    rw [uJ_m ar (by decide) (by decide), bsome, xb_r]
    dsimp only
    rw [bsome, bsome, t_ck T1, bsome, e2, bsome]
    dsimp only
    rw [t_ck T1, bsome, th_m T1, bsome]
    dsimp only
    rw [e4, if_pos rfl, if_pos (show w32 0 = 0 from rfl), aJ_m ar (by decide) (by decide), bsome, e3, up1_s, upz_s, if_pos rfl]
    exact ⟨_, _, _, rfl, V2⟩
  · have T1 := V2.T
    replace e2 : s_X11_told (x + 678) v1 v2 (sh1, I1, J1) = some (r, (sh1, I2, J2)) := e2
    rcases hk with ⟨hk, hc⟩ | ⟨hk, hn, hc⟩
    · subst hk; subst hc
      rw [e1, xb_l, if_pos rfl, xb_r]
      dsimp only
      rw [bsome, bsome, t_ck T1, bsome, e2, bsome]
      dsimp only
      rw [t_ck T1, bsome, th_m T1, bsome]
      dsimp only
      rw [e3, if_pos rfl, if_neg (by decide)]
      exact ⟨_, _, _, rfl, V2⟩
    · exact absurd rfl hn
theorem bl_1730 (V : IV sh I x (c + 1)) (h0 : 0 ≤ i) (h1 : i + 6 ≤ n) (h2 : n ≤ 384) : NXT (s_L_law_b1730 b n xs b x (x + 678) (x + 694) i (sh, I, J)) x c i := by
  obtain ⟨v1, g1, i1⟩ := gX_m (b := b) (n := n) (xs := xs) (j := i + 1) (by omega) (by omega) h2
  obtain ⟨v2, g2, i2⟩ := gX_m (b := b) (n := n) (xs := xs) (j := i + 2) (by omega) (by omega) h2
  obtain ⟨v3, g3, i3⟩ := gX_m (b := b) (n := n) (xs := xs) (j := i + 3) (by omega) (by omega) h2
  unfold s_L_law_b1730 s_X0_quotient
  rw [g1, bsome, g2, bsome, g3, bsome, l_ck V.L, bsome]
  rcases qc_quotient (J := J) V i1 i2 i3 with ⟨r, sh1, I1, J1, e1, ar, h⟩ | ⟨k, cd, a, sh1, I1, J1, e1, hk, r, I2, J2, e2, e3, V2⟩
  · rw [e1, xb_r]
    dsimp only
    obtain ⟨I2, J3, e2, e3, e4, V2⟩ := h (up1 J1 (x + 694) (upz (J1 (x + 694)) 0 (w32 r)))
    have T1 := V2.T
    replace e2 : s_X11_quotient (x + 678) v1 v2 v3 (sh1, I1, up1 J1 (x + 694) (upz (J1 (x + 694)) 0 (w32 r))) = some (r, (sh1, I2, J3)) := e2
    rw [uJ_m ar (by decide) (by decide), bsome, xb_r]
    dsimp only
    rw [bsome, bsome, bsome, t_ck T1, bsome, e2, bsome]
    dsimp only
    rw [t_ck T1, bsome, th_m T1, bsome]
    dsimp only
    rw [e4, if_pos rfl, if_pos (show w32 0 = 0 from rfl), aJ_m ar (by decide) (by decide), bsome, e3, up1_s, upz_s, if_pos rfl]
    exact ⟨_, _, _, rfl, V2⟩
  · have T1 := V2.T
    replace e2 : s_X11_quotient (x + 678) v1 v2 v3 (sh1, I1, J1) = some (r, (sh1, I2, J2)) := e2
    rcases hk with ⟨hk, hc⟩ | ⟨hk, hn, hc⟩
    · subst hk; subst hc
      rw [e1, xb_l, if_pos rfl, xb_r]
      dsimp only
      rw [bsome, bsome, bsome, t_ck T1, bsome, e2, bsome]
      dsimp only
      rw [t_ck T1, bsome, th_m T1, bsome]
      dsimp only
      rw [e3, if_pos rfl, if_neg (by decide)]
      exact ⟨_, _, _, rfl, V2⟩
    · exact absurd rfl hn
theorem bl_1810 (V : IV sh I x (c + 1)) (h0 : 0 ≤ i) (h1 : i + 6 ≤ n) (h2 : n ≤ 384) : NXT (s_L_law_b1810 b n xs b x (x + 678) (x + 694) i (sh, I, J)) x c i := by
  obtain ⟨v1, g1, i1⟩ := gX_m (b := b) (n := n) (xs := xs) (j := i + 1) (by omega) (by omega) h2
  unfold s_L_law_b1810 s_X0_plain
  rw [g1, bsome, l_ck V.L, bsome]
  rcases qc_plain (J := J) V i1 with ⟨r, sh1, I1, J1, e1, ar, h⟩ | ⟨k, cd, a, sh1, I1, J1, e1, hk, r, I2, J2, e2, e3, V2⟩
  · rw [e1, xb_r]
    dsimp only
    by_cases hz : w32 r = 0
    · obtain ⟨I2, J3, e2, e3, e4, V2⟩ := h (up1 J1 (x + 694) (upz (J1 (x + 694)) 0 (0)))
      have T1 := V2.T
      replace e2 : s_X11_plain (x + 678) v1 (sh1, I1, up1 J1 (x + 694) (upz (J1 (x + 694)) 0 (0))) = some (r, (sh1, I2, J3)) := e2
      rw [if_pos hz, uJ_m ar (by decide) (by decide), bsome, xb_r]
      dsimp only
      rw [bsome, t_ck T1, bsome, e2, bsome]
      dsimp only
      rw [t_ck T1, bsome, th_m T1, bsome]
      dsimp only
      rw [e4, if_pos rfl, if_pos (show w32 0 = 0 from rfl), aJ_m ar (by decide) (by decide), bsome, if_pos hz, e3, up1_s, upz_s, if_pos rfl]
      exact ⟨_, _, _, rfl, V2⟩
    · obtain ⟨I2, J3, e2, e3, e4, V2⟩ := h (up1 J1 (x + 694) (upz (J1 (x + 694)) 0 (1)))
      have T1 := V2.T
      replace e2 : s_X11_plain (x + 678) v1 (sh1, I1, up1 J1 (x + 694) (upz (J1 (x + 694)) 0 (1))) = some (r, (sh1, I2, J3)) := e2
      rw [if_neg hz, uJ_m ar (by decide) (by decide), bsome, xb_r]
      dsimp only
      rw [bsome, t_ck T1, bsome, e2, bsome]
      dsimp only
      rw [t_ck T1, bsome, th_m T1, bsome]
      dsimp only
      rw [e4, if_pos rfl, if_pos (show w32 0 = 0 from rfl), aJ_m ar (by decide) (by decide), bsome, if_neg hz, e3, up1_s, upz_s, if_pos rfl]
      exact ⟨_, _, _, rfl, V2⟩
  · have T1 := V2.T
    replace e2 : s_X11_plain (x + 678) v1 (sh1, I1, J1) = some (r, (sh1, I2, J2)) := e2
    rcases hk with ⟨hk, hc⟩ | ⟨hk, hn, hc⟩
    · subst hk; subst hc
      rw [e1, xb_l, if_pos rfl, xb_r]
      dsimp only
      rw [bsome, t_ck T1, bsome, e2, bsome]
      dsimp only
      rw [t_ck T1, bsome, th_m T1, bsome]
      dsimp only
      rw [e3, if_pos rfl, if_neg (by decide)]
      exact ⟨_, _, _, rfl, V2⟩
    · exact absurd rfl hn
theorem bl_1873 (V : IV sh I x (c + 1)) (h0 : 0 ≤ i) (h1 : i + 6 ≤ n) (h2 : n ≤ 384) : NXT (s_L_law_b1873 b n xs b x (x + 678) (x + 694) i (sh, I, J)) x c i := by
  obtain ⟨v1, g1, i1⟩ := gX_m (b := b) (n := n) (xs := xs) (j := i + 1) (by omega) (by omega) h2
  obtain ⟨v2, g2, i2⟩ := gX_m (b := b) (n := n) (xs := xs) (j := i + 2) (by omega) (by omega) h2
  unfold s_L_law_b1873 s_X0_root
  rw [g1, bsome, g2, bsome, l_ck V.L, bsome]
  rcases qc_root (J := J) V i1 i2 with ⟨r, sh1, I1, J1, e1, ar, h⟩ | ⟨k, cd, a, sh1, I1, J1, e1, hk, r, I2, J2, e2, e3, V2⟩
  · rw [e1, xb_r]
    dsimp only
    obtain ⟨I2, J3, e2, e3, e4, V2⟩ := h (up1 J1 (x + 694) (upz (J1 (x + 694)) 0 (w32 r)))
    have T1 := V2.T
    replace e2 : s_X11_root (x + 678) v1 v2 (sh1, I1, up1 J1 (x + 694) (upz (J1 (x + 694)) 0 (w32 r))) = some (r, (sh1, I2, J3)) := e2
    rw [uJ_m ar (by decide) (by decide), bsome, xb_r]
    dsimp only
    rw [bsome, bsome, t_ck T1, bsome, e2, bsome]
    dsimp only
    rw [t_ck T1, bsome, th_m T1, bsome]
    dsimp only
    rw [e4, if_pos rfl, if_pos (show w32 0 = 0 from rfl), aJ_m ar (by decide) (by decide), bsome, e3, up1_s, upz_s, if_pos rfl]
    exact ⟨_, _, _, rfl, V2⟩
  · have T1 := V2.T
    replace e2 : s_X11_root (x + 678) v1 v2 (sh1, I1, J1) = some (r, (sh1, I2, J2)) := e2
    rcases hk with ⟨hk, hc⟩ | ⟨hk, hn, hc⟩
    · subst hk; subst hc
      rw [e1, xb_l, if_pos rfl, xb_r]
      dsimp only
      rw [bsome, bsome, t_ck T1, bsome, e2, bsome]
      dsimp only
      rw [t_ck T1, bsome, th_m T1, bsome]
      dsimp only
      rw [e3, if_pos rfl, if_neg (by decide)]
      exact ⟨_, _, _, rfl, V2⟩
    · subst hk; subst hc
      rw [e1, xb_l, if_neg (show ¬ (0 : Nat) = 3 by decide), if_pos rfl, xb_r]
      dsimp only
      rw [bsome, bsome, t_ck T1, bsome, e2, bsome]
      dsimp only
      rw [t_ck T1, bsome, th_m T1, bsome]
      dsimp only
      rw [e3, if_pos rfl, if_neg (by decide)]
      exact ⟨_, _, _, rfl, V2⟩
theorem bl_1941 (V : IV sh I x (c + 1)) (h0 : 0 ≤ i) (h1 : i + 6 ≤ n) (h2 : n ≤ 384) : NXT (s_L_law_b1941 b n xs b x (x + 678) (x + 694) i (sh, I, J)) x c i := by
  obtain ⟨v1, g1, i1⟩ := gX_m (b := b) (n := n) (xs := xs) (j := i + 1) (by omega) (by omega) h2
  unfold s_L_law_b1941 s_X0_roots
  rw [g1, bsome, l_ck V.L, bsome]
  rcases qc_roots (J := J) V i1 with ⟨r, sh1, I1, J1, e1, ar, h⟩ | ⟨k, cd, a, sh1, I1, J1, e1, hk, r, I2, J2, e2, e3, V2⟩
  · rw [e1, xb_r]
    dsimp only
    obtain ⟨I2, J3, e2, e3, e4, V2⟩ := h (up1 J1 (x + 694) (upz (J1 (x + 694)) 0 (w32 r)))
    have T1 := V2.T
    replace e2 : s_X11_roots (x + 678) v1 (sh1, I1, up1 J1 (x + 694) (upz (J1 (x + 694)) 0 (w32 r))) = some (r, (sh1, I2, J3)) := e2
    rw [uJ_m ar (by decide) (by decide), bsome, xb_r]
    dsimp only
    rw [bsome, t_ck T1, bsome, e2, bsome]
    dsimp only
    rw [t_ck T1, bsome, th_m T1, bsome]
    dsimp only
    rw [e4, if_pos rfl, if_pos (show w32 0 = 0 from rfl), aJ_m ar (by decide) (by decide), bsome, e3, up1_s, upz_s, if_pos rfl]
    exact ⟨_, _, _, rfl, V2⟩
  · have T1 := V2.T
    replace e2 : s_X11_roots (x + 678) v1 (sh1, I1, J1) = some (r, (sh1, I2, J2)) := e2
    rcases hk with ⟨hk, hc⟩ | ⟨hk, hn, hc⟩
    · subst hk; subst hc
      rw [e1, xb_l, if_pos rfl, xb_r]
      dsimp only
      rw [bsome, t_ck T1, bsome, e2, bsome]
      dsimp only
      rw [t_ck T1, bsome, th_m T1, bsome]
      dsimp only
      rw [e3, if_pos rfl, if_neg (by decide)]
      exact ⟨_, _, _, rfl, V2⟩
    · exact absurd rfl hn
theorem bl_1997 (V : IV sh I x (c + 1)) (h0 : 0 ≤ i) (h1 : i + 6 ≤ n) (h2 : n ≤ 384) : NXT (s_L_law_b1997 b n xs b x (x + 678) (x + 694) i (sh, I, J)) x c i := by
  obtain ⟨v1, g1, i1⟩ := gX_m (b := b) (n := n) (xs := xs) (j := i + 1) (by omega) (by omega) h2
  unfold s_L_law_b1997 s_X0_empty
  rw [g1, bsome, l_ck V.L, bsome]
  rcases qc_empty (J := J) V i1 with ⟨r, sh1, I1, J1, e1, ar, h⟩ | ⟨k, cd, a, sh1, I1, J1, e1, hk, r, I2, J2, e2, e3, V2⟩
  · rw [e1, xb_r]
    dsimp only
    by_cases hz : w32 r = 0
    · obtain ⟨I2, J3, e2, e3, e4, V2⟩ := h (up1 J1 (x + 694) (upz (J1 (x + 694)) 0 (0)))
      have T1 := V2.T
      replace e2 : s_X11_empty (x + 678) v1 (sh1, I1, up1 J1 (x + 694) (upz (J1 (x + 694)) 0 (0))) = some (r, (sh1, I2, J3)) := e2
      rw [if_pos hz, uJ_m ar (by decide) (by decide), bsome, xb_r]
      dsimp only
      rw [bsome, t_ck T1, bsome, e2, bsome]
      dsimp only
      rw [t_ck T1, bsome, th_m T1, bsome]
      dsimp only
      rw [e4, if_pos rfl, if_pos (show w32 0 = 0 from rfl), aJ_m ar (by decide) (by decide), bsome, if_pos hz, e3, up1_s, upz_s, if_pos rfl]
      exact ⟨_, _, _, rfl, V2⟩
    · obtain ⟨I2, J3, e2, e3, e4, V2⟩ := h (up1 J1 (x + 694) (upz (J1 (x + 694)) 0 (1)))
      have T1 := V2.T
      replace e2 : s_X11_empty (x + 678) v1 (sh1, I1, up1 J1 (x + 694) (upz (J1 (x + 694)) 0 (1))) = some (r, (sh1, I2, J3)) := e2
      rw [if_neg hz, uJ_m ar (by decide) (by decide), bsome, xb_r]
      dsimp only
      rw [bsome, t_ck T1, bsome, e2, bsome]
      dsimp only
      rw [t_ck T1, bsome, th_m T1, bsome]
      dsimp only
      rw [e4, if_pos rfl, if_pos (show w32 0 = 0 from rfl), aJ_m ar (by decide) (by decide), bsome, if_neg hz, e3, up1_s, upz_s, if_pos rfl]
      exact ⟨_, _, _, rfl, V2⟩
  · have T1 := V2.T
    replace e2 : s_X11_empty (x + 678) v1 (sh1, I1, J1) = some (r, (sh1, I2, J2)) := e2
    rcases hk with ⟨hk, hc⟩ | ⟨hk, hn, hc⟩
    · subst hk; subst hc
      rw [e1, xb_l, if_pos rfl, xb_r]
      dsimp only
      rw [bsome, t_ck T1, bsome, e2, bsome]
      dsimp only
      rw [t_ck T1, bsome, th_m T1, bsome]
      dsimp only
      rw [e3, if_pos rfl, if_neg (by decide)]
      exact ⟨_, _, _, rfl, V2⟩
    · exact absurd rfl hn
theorem bl_2060 (V : IV sh I x (c + 1)) (h0 : 0 ≤ i) (h1 : i + 6 ≤ n) (h2 : n ≤ 384) : NXT (s_L_law_b2060 b n xs b x (x + 678) (x + 694) i (sh, I, J)) x c i := by
  obtain ⟨v1, g1, i1⟩ := gX_m (b := b) (n := n) (xs := xs) (j := i + 1) (by omega) (by omega) h2
  obtain ⟨v2, g2, i2⟩ := gX_m (b := b) (n := n) (xs := xs) (j := i + 2) (by omega) (by omega) h2
  unfold s_L_law_b2060 s_X0_same
  rw [g1, bsome, g2, bsome, l_ck V.L, bsome]
  rcases qc_same (J := J) V i1 i2 with ⟨r, sh1, I1, J1, e1, ar, h⟩ | ⟨k, cd, a, sh1, I1, J1, e1, hk, r, I2, J2, e2, e3, V2⟩
  · rw [e1, xb_r]
    dsimp only
    obtain ⟨I2, J3, e2, e3, e4, V2⟩ := h (up1 J1 (x + 694) (upz (J1 (x + 694)) 0 (w32 r)))
    have T1 := V2.T
    replace e2 : s_X11_same (x + 678) v1 v2 (sh1, I1, up1 J1 (x + 694) (upz (J1 (x + 694)) 0 (w32 r))) = some (r, (sh1, I2, J3)) := e2
    rw [uJ_m ar (by decide) (by decide), bsome, xb_r]
    dsimp only
    rw [bsome, bsome, t_ck T1, bsome, e2, bsome]
    dsimp only
    rw [t_ck T1, bsome, th_m T1, bsome]
    dsimp only
    rw [e4, if_pos rfl, if_pos (show w32 0 = 0 from rfl), aJ_m ar (by decide) (by decide), bsome, e3, up1_s, upz_s, if_pos rfl]
    exact ⟨_, _, _, rfl, V2⟩
  · have T1 := V2.T
    replace e2 : s_X11_same (x + 678) v1 v2 (sh1, I1, J1) = some (r, (sh1, I2, J2)) := e2
    rcases hk with ⟨hk, hc⟩ | ⟨hk, hn, hc⟩
    · subst hk; subst hc
      rw [e1, xb_l, if_pos rfl, xb_r]
      dsimp only
      rw [bsome, bsome, t_ck T1, bsome, e2, bsome]
      dsimp only
      rw [t_ck T1, bsome, th_m T1, bsome]
      dsimp only
      rw [e3, if_pos rfl, if_neg (by decide)]
      exact ⟨_, _, _, rfl, V2⟩
    · exact absurd rfl hn
theorem bl_2128 (V : IV sh I x (c + 1)) (h0 : 0 ≤ i) (h1 : i + 6 ≤ n) (h2 : n ≤ 384) : NXT (s_L_law_b2128 b n xs b x (x + 678) (x + 694) i (sh, I, J)) x c i := by
  obtain ⟨v1, g1, i1⟩ := gX_m (b := b) (n := n) (xs := xs) (j := i + 1) (by omega) (by omega) h2
  unfold s_L_law_b2128 s_X0_keep
  rw [g1, bsome, l_ck V.L, bsome]
  rcases qc_keep (J := J) V i1 with ⟨r, sh1, I1, J1, e1, ar, h⟩ | ⟨k, cd, a, sh1, I1, J1, e1, hk, r, I2, J2, e2, e3, V2⟩
  · rw [e1, xb_r]
    dsimp only
    obtain ⟨I2, J3, e2, e3, e4, V2⟩ := h (up1 J1 (x + 694) (upz (J1 (x + 694)) 0 (w32 r)))
    have T1 := V2.T
    replace e2 : s_X11_keep (x + 678) v1 (sh1, I1, up1 J1 (x + 694) (upz (J1 (x + 694)) 0 (w32 r))) = some (r, (sh1, I2, J3)) := e2
    rw [uJ_m ar (by decide) (by decide), bsome, xb_r]
    dsimp only
    rw [bsome, t_ck T1, bsome, e2, bsome]
    dsimp only
    rw [t_ck T1, bsome, th_m T1, bsome]
    dsimp only
    rw [e4, if_pos rfl, if_pos (show w32 0 = 0 from rfl), aJ_m ar (by decide) (by decide), bsome, e3, up1_s, upz_s, if_pos rfl]
    exact ⟨_, _, _, rfl, V2⟩
  · have T1 := V2.T
    replace e2 : s_X11_keep (x + 678) v1 (sh1, I1, J1) = some (r, (sh1, I2, J2)) := e2
    rcases hk with ⟨hk, hc⟩ | ⟨hk, hn, hc⟩
    · subst hk; subst hc
      rw [e1, xb_l, if_pos rfl, xb_r]
      dsimp only
      rw [bsome, t_ck T1, bsome, e2, bsome]
      dsimp only
      rw [t_ck T1, bsome, th_m T1, bsome]
      dsimp only
      rw [e3, if_pos rfl, if_neg (by decide)]
      exact ⟨_, _, _, rfl, V2⟩
    · exact absurd rfl hn
theorem bl_2184 (V : IV sh I x (c + 1)) (h0 : 0 ≤ i) (h1 : i + 6 ≤ n) (h2 : n ≤ 384) : NXT (s_L_law_b2184 b n xs b x (x + 678) (x + 694) i (sh, I, J)) x c i := by
  obtain ⟨v1, g1, i1⟩ := gX_m (b := b) (n := n) (xs := xs) (j := i + 1) (by omega) (by omega) h2
  obtain ⟨v2, g2, i2⟩ := gX_m (b := b) (n := n) (xs := xs) (j := i + 2) (by omega) (by omega) h2
  unfold s_L_law_b2184 s_X0_powers
  rw [g1, bsome, g2, bsome, l_ck V.L, bsome]
  rcases qc_powers (J := J) V i1 i2 with ⟨r, sh1, I1, J1, e1, ar, h⟩ | ⟨k, cd, a, sh1, I1, J1, e1, hk, r, I2, J2, e2, e3, V2⟩
  · rw [e1, xb_r]
    dsimp only
    obtain ⟨I2, J3, e2, e3, e4, V2⟩ := h (up1 J1 (x + 694) (upz (J1 (x + 694)) 0 (w32 r)))
    have T1 := V2.T
    replace e2 : s_X11_powers (x + 678) v1 v2 (sh1, I1, up1 J1 (x + 694) (upz (J1 (x + 694)) 0 (w32 r))) = some (r, (sh1, I2, J3)) := e2
    rw [uJ_m ar (by decide) (by decide), bsome, xb_r]
    dsimp only
    rw [bsome, bsome, t_ck T1, bsome, e2, bsome]
    dsimp only
    rw [t_ck T1, bsome, th_m T1, bsome]
    dsimp only
    rw [e4, if_pos rfl, if_pos (show w32 0 = 0 from rfl), aJ_m ar (by decide) (by decide), bsome, e3, up1_s, upz_s, if_pos rfl]
    exact ⟨_, _, _, rfl, V2⟩
  · have T1 := V2.T
    replace e2 : s_X11_powers (x + 678) v1 v2 (sh1, I1, J1) = some (r, (sh1, I2, J2)) := e2
    rcases hk with ⟨hk, hc⟩ | ⟨hk, hn, hc⟩
    · subst hk; subst hc
      rw [e1, xb_l, if_pos rfl, xb_r]
      dsimp only
      rw [bsome, bsome, t_ck T1, bsome, e2, bsome]
      dsimp only
      rw [t_ck T1, bsome, th_m T1, bsome]
      dsimp only
      rw [e3, if_pos rfl, if_neg (by decide)]
      exact ⟨_, _, _, rfl, V2⟩
    · subst hk; subst hc
      rw [e1, xb_l, if_neg (show ¬ (0 : Nat) = 3 by decide), if_pos rfl, xb_r]
      dsimp only
      rw [bsome, bsome, t_ck T1, bsome, e2, bsome]
      dsimp only
      rw [t_ck T1, bsome, th_m T1, bsome]
      dsimp only
      rw [e3, if_pos rfl, if_neg (by decide)]
      exact ⟨_, _, _, rfl, V2⟩
theorem bl_2252 (V : IV sh I x (c + 1)) (h0 : 0 ≤ i) (h1 : i + 6 ≤ n) (h2 : n ≤ 384) : NXT (s_L_law_b2252 b n xs b x (x + 678) (x + 694) i (sh, I, J)) x c i := by
  obtain ⟨v1, g1, i1⟩ := gX_m (b := b) (n := n) (xs := xs) (j := i + 1) (by omega) (by omega) h2
  obtain ⟨v2, g2, i2⟩ := gX_m (b := b) (n := n) (xs := xs) (j := i + 2) (by omega) (by omega) h2
  obtain ⟨v3, g3, i3⟩ := gX_m (b := b) (n := n) (xs := xs) (j := i + 3) (by omega) (by omega) h2
  unfold s_L_law_b2252 s_X0_common
  rw [g1, bsome, g2, bsome, g3, bsome, l_ck V.L, bsome]
  rcases qc_common (J := J) V i1 i2 i3 with ⟨r, sh1, I1, J1, e1, ar, h⟩ | ⟨k, cd, a, sh1, I1, J1, e1, hk, r, I2, J2, e2, e3, V2⟩
  · rw [e1, xb_r]
    dsimp only
    obtain ⟨I2, J3, e2, e3, e4, V2⟩ := h (up1 J1 (x + 694) (upz (J1 (x + 694)) 0 (w32 r)))
    have T1 := V2.T
    replace e2 : s_X11_common (x + 678) v1 v2 v3 (sh1, I1, up1 J1 (x + 694) (upz (J1 (x + 694)) 0 (w32 r))) = some (r, (sh1, I2, J3)) := e2
    rw [uJ_m ar (by decide) (by decide), bsome, xb_r]
    dsimp only
    rw [bsome, bsome, bsome, t_ck T1, bsome, e2, bsome]
    dsimp only
    rw [t_ck T1, bsome, th_m T1, bsome]
    dsimp only
    rw [e4, if_pos rfl, if_pos (show w32 0 = 0 from rfl), aJ_m ar (by decide) (by decide), bsome, e3, up1_s, upz_s, if_pos rfl]
    exact ⟨_, _, _, rfl, V2⟩
  · have T1 := V2.T
    replace e2 : s_X11_common (x + 678) v1 v2 v3 (sh1, I1, J1) = some (r, (sh1, I2, J2)) := e2
    rcases hk with ⟨hk, hc⟩ | ⟨hk, hn, hc⟩
    · subst hk; subst hc
      rw [e1, xb_l, if_pos rfl, xb_r]
      dsimp only
      rw [bsome, bsome, bsome, t_ck T1, bsome, e2, bsome]
      dsimp only
      rw [t_ck T1, bsome, th_m T1, bsome]
      dsimp only
      rw [e3, if_pos rfl, if_neg (by decide)]
      exact ⟨_, _, _, rfl, V2⟩
    · exact absurd rfl hn
theorem bl_2332 (V : IV sh I x (c + 1)) (h0 : 0 ≤ i) (h1 : i + 6 ≤ n) (h2 : n ≤ 384) : NXT (s_L_law_b2332 b n xs b x (x + 678) (x + 694) i (sh, I, J)) x c i := by
  obtain ⟨v1, g1, i1⟩ := gX_m (b := b) (n := n) (xs := xs) (j := i + 1) (by omega) (by omega) h2
  obtain ⟨v2, g2, i2⟩ := gX_m (b := b) (n := n) (xs := xs) (j := i + 2) (by omega) (by omega) h2
  obtain ⟨v3, g3, i3⟩ := gX_m (b := b) (n := n) (xs := xs) (j := i + 3) (by omega) (by omega) h2
  obtain ⟨v4, g4, i4⟩ := gX_m (b := b) (n := n) (xs := xs) (j := i + 4) (by omega) (by omega) h2
  unfold s_L_law_b2332 s_X0_overlap
  rw [g1, bsome, g2, bsome, g3, bsome, g4, bsome, l_ck V.L, bsome]
  rcases qc_overlap (J := J) V i1 i2 i3 i4 with ⟨r, sh1, I1, J1, e1, ar, h⟩ | ⟨k, cd, a, sh1, I1, J1, e1, hk, r, I2, J2, e2, e3, V2⟩
  · rw [e1, xb_r]
    dsimp only
    obtain ⟨I2, J3, e2, e3, e4, V2⟩ := h (up1 J1 (x + 694) (upz (J1 (x + 694)) 0 (w32 r)))
    have T1 := V2.T
    replace e2 : s_X11_overlap (x + 678) v1 v2 v3 v4 (sh1, I1, up1 J1 (x + 694) (upz (J1 (x + 694)) 0 (w32 r))) = some (r, (sh1, I2, J3)) := e2
    rw [uJ_m ar (by decide) (by decide), bsome, xb_r]
    dsimp only
    rw [bsome, bsome, bsome, bsome, t_ck T1, bsome, e2, bsome]
    dsimp only
    rw [t_ck T1, bsome, th_m T1, bsome]
    dsimp only
    rw [e4, if_pos rfl, if_pos (show w32 0 = 0 from rfl), aJ_m ar (by decide) (by decide), bsome, e3, up1_s, upz_s, if_pos rfl]
    exact ⟨_, _, _, rfl, V2⟩
  · have T1 := V2.T
    replace e2 : s_X11_overlap (x + 678) v1 v2 v3 v4 (sh1, I1, J1) = some (r, (sh1, I2, J2)) := e2
    rcases hk with ⟨hk, hc⟩ | ⟨hk, hn, hc⟩
    · subst hk; subst hc
      rw [e1, xb_l, if_pos rfl, xb_r]
      dsimp only
      rw [bsome, bsome, bsome, bsome, t_ck T1, bsome, e2, bsome]
      dsimp only
      rw [t_ck T1, bsome, th_m T1, bsome]
      dsimp only
      rw [e3, if_pos rfl, if_neg (by decide)]
      exact ⟨_, _, _, rfl, V2⟩
    · subst hk; subst hc
      rw [e1, xb_l, if_neg (show ¬ (0 : Nat) = 3 by decide), if_pos rfl, xb_r]
      dsimp only
      rw [bsome, bsome, bsome, bsome, t_ck T1, bsome, e2, bsome]
      dsimp only
      rw [t_ck T1, bsome, th_m T1, bsome]
      dsimp only
      rw [e3, if_pos rfl, if_neg (by decide)]
      exact ⟨_, _, _, rfl, V2⟩
theorem bl_2424 (V : IV sh I x (c + 1)) (h0 : 0 ≤ i) (h1 : i + 6 ≤ n) (h2 : n ≤ 384) : NXT (s_L_law_b2424 b n xs b x (x + 678) (x + 694) i (sh, I, J)) x c i := by
  obtain ⟨v1, g1, i1⟩ := gX_m (b := b) (n := n) (xs := xs) (j := i + 1) (by omega) (by omega) h2
  obtain ⟨v2, g2, i2⟩ := gX_m (b := b) (n := n) (xs := xs) (j := i + 2) (by omega) (by omega) h2
  obtain ⟨v3, g3, i3⟩ := gX_m (b := b) (n := n) (xs := xs) (j := i + 3) (by omega) (by omega) h2
  obtain ⟨v4, g4, i4⟩ := gX_m (b := b) (n := n) (xs := xs) (j := i + 4) (by omega) (by omega) h2
  unfold s_L_law_b2424 s_X0_reduced
  rw [g1, bsome, g2, bsome, g3, bsome, g4, bsome, l_ck V.L, bsome]
  rcases qc_reduced (J := J) V i1 i2 i3 i4 with ⟨r, sh1, I1, J1, e1, ar, h⟩ | ⟨k, cd, a, sh1, I1, J1, e1, hk, r, I2, J2, e2, e3, V2⟩
  · rw [e1, xb_r]
    dsimp only
    obtain ⟨I2, J3, e2, e3, e4, V2⟩ := h (up1 J1 (x + 694) (upz (J1 (x + 694)) 0 (r)))
    have T1 := V2.T
    replace e2 : s_X11_reduced (x + 678) v1 v2 v3 v4 (sh1, I1, up1 J1 (x + 694) (upz (J1 (x + 694)) 0 (r))) = some (r, (sh1, I2, J3)) := e2
    rw [uJ_m ar (by decide) (by decide), bsome, xb_r]
    dsimp only
    rw [bsome, bsome, bsome, bsome, t_ck T1, bsome, e2, bsome]
    dsimp only
    rw [t_ck T1, bsome, th_m T1, bsome]
    dsimp only
    rw [e4, if_pos rfl, if_pos (show w32 0 = 0 from rfl), aJ_m ar (by decide) (by decide), bsome, e3, up1_s, upz_s, if_pos rfl]
    exact ⟨_, _, _, rfl, V2⟩
  · have T1 := V2.T
    replace e2 : s_X11_reduced (x + 678) v1 v2 v3 v4 (sh1, I1, J1) = some (r, (sh1, I2, J2)) := e2
    rcases hk with ⟨hk, hc⟩ | ⟨hk, hn, hc⟩
    · subst hk; subst hc
      rw [e1, xb_l, if_pos rfl, xb_r]
      dsimp only
      rw [bsome, bsome, bsome, bsome, t_ck T1, bsome, e2, bsome]
      dsimp only
      rw [t_ck T1, bsome, th_m T1, bsome]
      dsimp only
      rw [e3, if_pos rfl, if_neg (by decide)]
      exact ⟨_, _, _, rfl, V2⟩
    · subst hk; subst hc
      rw [e1, xb_l, if_neg (show ¬ (4 : Nat) = 0 by decide), if_pos rfl, xb_r]
      dsimp only
      rw [bsome, bsome, bsome, bsome, t_ck T1, bsome, e2, bsome]
      dsimp only
      rw [t_ck T1, bsome, th_m T1, bsome]
      dsimp only
      rw [e3, if_pos rfl, if_neg (by decide)]
      exact ⟨_, _, _, rfl, V2⟩
theorem bl_2599 (V : IV sh I x (c + 1)) (h0 : 0 ≤ i) (h1 : i + 6 ≤ n) (h2 : n ≤ 384) : NXT (s_L_law_b2599 b n xs b x (x + 678) (x + 694) i (sh, I, J)) x c i := by
  obtain ⟨v1, g1, i1⟩ := gX_m (b := b) (n := n) (xs := xs) (j := i + 1) (by omega) (by omega) h2
  obtain ⟨v2, g2, i2⟩ := gX_m (b := b) (n := n) (xs := xs) (j := i + 2) (by omega) (by omega) h2
  obtain ⟨v3, g3, i3⟩ := gX_m (b := b) (n := n) (xs := xs) (j := i + 3) (by omega) (by omega) h2
  unfold s_L_law_b2599 s_X0_reducedAt
  rw [g1, bsome, g2, bsome, g3, bsome, l_ck V.L, bsome]
  rcases qc_reducedAt (J := J) V i1 i2 i3 with ⟨r, sh1, I1, J1, e1, ar, h⟩ | ⟨k, cd, a, sh1, I1, J1, e1, hk, r, I2, J2, e2, e3, V2⟩
  · rw [e1, xb_r]
    dsimp only
    obtain ⟨I2, J3, e2, e3, e4, V2⟩ := h (up1 J1 (x + 694) (upz (J1 (x + 694)) 0 (w32 r)))
    have T1 := V2.T
    replace e2 : s_X11_reducedAt (x + 678) v1 v2 v3 (sh1, I1, up1 J1 (x + 694) (upz (J1 (x + 694)) 0 (w32 r))) = some (r, (sh1, I2, J3)) := e2
    rw [uJ_m ar (by decide) (by decide), bsome, xb_r]
    dsimp only
    rw [bsome, bsome, bsome, t_ck T1, bsome, e2, bsome]
    dsimp only
    rw [t_ck T1, bsome, th_m T1, bsome]
    dsimp only
    rw [e4, if_pos rfl, if_pos (show w32 0 = 0 from rfl), aJ_m ar (by decide) (by decide), bsome, e3, up1_s, upz_s, if_pos rfl]
    exact ⟨_, _, _, rfl, V2⟩
  · have T1 := V2.T
    replace e2 : s_X11_reducedAt (x + 678) v1 v2 v3 (sh1, I1, J1) = some (r, (sh1, I2, J2)) := e2
    rcases hk with ⟨hk, hc⟩ | ⟨hk, hn, hc⟩
    · subst hk; subst hc
      rw [e1, xb_l, if_pos rfl, xb_r]
      dsimp only
      rw [bsome, bsome, bsome, t_ck T1, bsome, e2, bsome]
      dsimp only
      rw [t_ck T1, bsome, th_m T1, bsome]
      dsimp only
      rw [e3, if_pos rfl, if_neg (by decide)]
      exact ⟨_, _, _, rfl, V2⟩
    · subst hk; subst hc
      rw [e1, xb_l, if_neg (show ¬ (4 : Nat) = 0 by decide), if_pos rfl, xb_r]
      dsimp only
      rw [bsome, bsome, bsome, t_ck T1, bsome, e2, bsome]
      dsimp only
      rw [t_ck T1, bsome, th_m T1, bsome]
      dsimp only
      rw [e3, if_pos rfl, if_neg (by decide)]
      exact ⟨_, _, _, rfl, V2⟩
theorem bl_2679 (V : IV sh I x (c + 1)) (h0 : 0 ≤ i) (h1 : i + 6 ≤ n) (h2 : n ≤ 384) : NXT (s_L_law_b2679 b n xs b x (x + 678) (x + 694) i (sh, I, J)) x c i := by
  obtain ⟨v1, g1, i1⟩ := gX_m (b := b) (n := n) (xs := xs) (j := i + 1) (by omega) (by omega) h2
  obtain ⟨v2, g2, i2⟩ := gX_m (b := b) (n := n) (xs := xs) (j := i + 2) (by omega) (by omega) h2
  obtain ⟨v3, g3, i3⟩ := gX_m (b := b) (n := n) (xs := xs) (j := i + 3) (by omega) (by omega) h2
  obtain ⟨v4, g4, i4⟩ := gX_m (b := b) (n := n) (xs := xs) (j := i + 4) (by omega) (by omega) h2
  obtain ⟨v5, g5, i5⟩ := gX_m (b := b) (n := n) (xs := xs) (j := i + 5) (by omega) (by omega) h2
  unfold s_L_law_b2679 s_X0_real
  rw [g1, bsome, g2, bsome, g3, bsome, g4, bsome, g5, bsome, l_ck V.L, bsome]
  rcases qc_real (J := J) V i1 i2 i3 i4 i5 with ⟨r, sh1, I1, J1, e1, ar, h⟩ | ⟨k, cd, a, sh1, I1, J1, e1, hk, r, I2, J2, e2, e3, V2⟩
  · rw [e1, xb_r]
    dsimp only
    obtain ⟨I2, J3, e2, e3, e4, V2⟩ := h (up1 J1 (x + 694) (upz (J1 (x + 694)) 0 (w32 r)))
    have T1 := V2.T
    replace e2 : s_X11_real (x + 678) v1 v2 v3 v4 v5 (sh1, I1, up1 J1 (x + 694) (upz (J1 (x + 694)) 0 (w32 r))) = some (r, (sh1, I2, J3)) := e2
    rw [uJ_m ar (by decide) (by decide), bsome, xb_r]
    dsimp only
    rw [bsome, bsome, bsome, bsome, bsome, t_ck T1, bsome, e2, bsome]
    dsimp only
    rw [t_ck T1, bsome, th_m T1, bsome]
    dsimp only
    rw [e4, if_pos rfl, if_pos (show w32 0 = 0 from rfl), aJ_m ar (by decide) (by decide), bsome, e3, up1_s, upz_s, if_pos rfl]
    exact ⟨_, _, _, rfl, V2⟩
  · have T1 := V2.T
    replace e2 : s_X11_real (x + 678) v1 v2 v3 v4 v5 (sh1, I1, J1) = some (r, (sh1, I2, J2)) := e2
    rcases hk with ⟨hk, hc⟩ | ⟨hk, hn, hc⟩
    · subst hk; subst hc
      rw [e1, xb_l, if_pos rfl, xb_r]
      dsimp only
      rw [bsome, bsome, bsome, bsome, bsome, t_ck T1, bsome, e2, bsome]
      dsimp only
      rw [t_ck T1, bsome, th_m T1, bsome]
      dsimp only
      rw [e3, if_pos rfl, if_neg (by decide)]
      exact ⟨_, _, _, rfl, V2⟩
    · exact absurd rfl hn
theorem bl_936 (V : IV sh I x (c + 1)) (h0 : 0 ≤ i) (h1 : i + 6 ≤ n) (h2 : n ≤ 384) : NXT (s_L_law_b936 b n xs b x (x + 678) (x + 694) i (sh, I, J)) x c i := by
  obtain ⟨v1, g1, i1⟩ := gX_m (b := b) (n := n) (xs := xs) (j := i + 1) (by omega) (by omega) h2
  obtain ⟨v2, g2, i2⟩ := gX_m (b := b) (n := n) (xs := xs) (j := i + 2) (by omega) (by omega) h2
  unfold s_L_law_b936
  rw [g1, bsome, g2, bsome]
  by_cases hf : w32 v2 = 0
  · rw [if_pos hf]
    unfold s_L_law_b957 s_X0_rank
    rw [l_ck V.L, bsome]
    rcases qc_rank (J := J) V i1 (Or.inl (rfl : (0 : Int) = 0)) with ⟨r, sh1, I1, J1, e1, ar, h⟩ | ⟨k, cd, a, sh1, I1, J1, e1, hk, r, I2, J2, e2, e3, V2⟩
    · rw [e1, xb_r]
      dsimp only
      obtain ⟨I2, J3, e2, e3, e4, V2⟩ := h (up1 J1 (x + 694) (upz (J1 (x + 694)) 0 (w32 r)))
      have T1 := V2.T
      replace e2 : s_X11_rank (x + 678) v1 0 (sh1, I1, up1 J1 (x + 694) (upz (J1 (x + 694)) 0 (w32 r))) = some (r, (sh1, I2, J3)) := e2
      rw [uJ_m ar (by decide) (by decide), bsome, xb_r]
      dsimp only
      rw [g1, bsome, g2, bsome, if_pos hf]
      unfold s_L_law_b984
      rw [t_ck T1, bsome, e2, bsome]
      dsimp only
      rw [t_ck T1, bsome, th_m T1, bsome]
      dsimp only
      rw [e4, if_pos rfl, if_pos (show w32 0 = 0 from rfl), aJ_m ar (by decide) (by decide), bsome, e3, up1_s, upz_s, if_pos rfl]
      exact ⟨_, _, _, rfl, V2⟩
    · have T1 := V2.T
      replace e2 : s_X11_rank (x + 678) v1 0 (sh1, I1, J1) = some (r, (sh1, I2, J2)) := e2
      rcases hk with ⟨hk, hc⟩ | ⟨hk, hn, hc⟩
      · subst hk; subst hc
        rw [e1, xb_l, if_pos rfl, xb_r]
        dsimp only
        rw [g1, bsome, g2, bsome, if_pos hf]
        unfold s_L_law_b984
        rw [t_ck T1, bsome, e2, bsome]
        dsimp only
        rw [t_ck T1, bsome, th_m T1, bsome]
        dsimp only
        rw [e3, if_pos rfl, if_neg (by decide)]
        exact ⟨_, _, _, rfl, V2⟩
      · exact absurd rfl hn
  · rw [if_neg hf]
    unfold s_L_law_b957 s_X0_rank
    rw [l_ck V.L, bsome]
    rcases qc_rank (J := J) V i1 (Or.inr (rfl : (1 : Int) = 1)) with ⟨r, sh1, I1, J1, e1, ar, h⟩ | ⟨k, cd, a, sh1, I1, J1, e1, hk, r, I2, J2, e2, e3, V2⟩
    · rw [e1, xb_r]
      dsimp only
      obtain ⟨I2, J3, e2, e3, e4, V2⟩ := h (up1 J1 (x + 694) (upz (J1 (x + 694)) 0 (w32 r)))
      have T1 := V2.T
      replace e2 : s_X11_rank (x + 678) v1 1 (sh1, I1, up1 J1 (x + 694) (upz (J1 (x + 694)) 0 (w32 r))) = some (r, (sh1, I2, J3)) := e2
      rw [uJ_m ar (by decide) (by decide), bsome, xb_r]
      dsimp only
      rw [g1, bsome, g2, bsome, if_neg hf]
      unfold s_L_law_b984
      rw [t_ck T1, bsome, e2, bsome]
      dsimp only
      rw [t_ck T1, bsome, th_m T1, bsome]
      dsimp only
      rw [e4, if_pos rfl, if_pos (show w32 0 = 0 from rfl), aJ_m ar (by decide) (by decide), bsome, e3, up1_s, upz_s, if_pos rfl]
      exact ⟨_, _, _, rfl, V2⟩
    · have T1 := V2.T
      replace e2 : s_X11_rank (x + 678) v1 1 (sh1, I1, J1) = some (r, (sh1, I2, J2)) := e2
      rcases hk with ⟨hk, hc⟩ | ⟨hk, hn, hc⟩
      · subst hk; subst hc
        rw [e1, xb_l, if_pos rfl, xb_r]
        dsimp only
        rw [g1, bsome, g2, bsome, if_neg hf]
        unfold s_L_law_b984
        rw [t_ck T1, bsome, e2, bsome]
        dsimp only
        rw [t_ck T1, bsome, th_m T1, bsome]
        dsimp only
        rw [e3, if_pos rfl, if_neg (by decide)]
        exact ⟨_, _, _, rfl, V2⟩
      · exact absurd rfl hn
theorem bl_2515 (V : IV sh I x (c + 1)) (h0 : 0 ≤ i) (h1 : i + 6 ≤ n) (h2 : n ≤ 384) : NXT (s_L_law_b2515 b n xs b x (x + 678) (x + 694) i (sh, I, J)) x c i := by
  obtain ⟨v1, g1, i1⟩ := gX_m (b := b) (n := n) (xs := xs) (j := i + 1) (by omega) (by omega) h2
  obtain ⟨v2, g2, i2⟩ := gX_m (b := b) (n := n) (xs := xs) (j := i + 2) (by omega) (by omega) h2
  unfold s_L_law_b2515
  rw [g1, bsome, g2, bsome]
  by_cases hf : w32 v2 = 0
  · rw [if_pos hf]
    unfold s_L_law_b2536 s_X0_classes
    rw [l_ck V.L, bsome]
    rcases qc_classes (J := J) V i1 (Or.inl (rfl : (0 : Int) = 0)) with ⟨r, sh1, I1, J1, e1, ar, h⟩ | ⟨k, cd, a, sh1, I1, J1, e1, hk, r, I2, J2, e2, e3, V2⟩
    · rw [e1, xb_r]
      dsimp only
      obtain ⟨I2, J3, e2, e3, e4, V2⟩ := h (up1 J1 (x + 694) (upz (J1 (x + 694)) 0 (w32 r)))
      have T1 := V2.T
      replace e2 : s_X11_classes (x + 678) v1 0 (sh1, I1, up1 J1 (x + 694) (upz (J1 (x + 694)) 0 (w32 r))) = some (r, (sh1, I2, J3)) := e2
      rw [uJ_m ar (by decide) (by decide), bsome, xb_r]
      dsimp only
      rw [g1, bsome, g2, bsome, if_pos hf]
      unfold s_L_law_b2563
      rw [t_ck T1, bsome, e2, bsome]
      dsimp only
      rw [t_ck T1, bsome, th_m T1, bsome]
      dsimp only
      rw [e4, if_pos rfl, if_pos (show w32 0 = 0 from rfl), aJ_m ar (by decide) (by decide), bsome, e3, up1_s, upz_s, if_pos rfl]
      exact ⟨_, _, _, rfl, V2⟩
    · have T1 := V2.T
      replace e2 : s_X11_classes (x + 678) v1 0 (sh1, I1, J1) = some (r, (sh1, I2, J2)) := e2
      rcases hk with ⟨hk, hc⟩ | ⟨hk, hn, hc⟩
      · subst hk; subst hc
        rw [e1, xb_l, if_pos rfl, xb_r]
        dsimp only
        rw [g1, bsome, g2, bsome, if_pos hf]
        unfold s_L_law_b2563
        rw [t_ck T1, bsome, e2, bsome]
        dsimp only
        rw [t_ck T1, bsome, th_m T1, bsome]
        dsimp only
        rw [e3, if_pos rfl, if_neg (by decide)]
        exact ⟨_, _, _, rfl, V2⟩
      · exact absurd rfl hn
  · rw [if_neg hf]
    unfold s_L_law_b2536 s_X0_classes
    rw [l_ck V.L, bsome]
    rcases qc_classes (J := J) V i1 (Or.inr (rfl : (1 : Int) = 1)) with ⟨r, sh1, I1, J1, e1, ar, h⟩ | ⟨k, cd, a, sh1, I1, J1, e1, hk, r, I2, J2, e2, e3, V2⟩
    · rw [e1, xb_r]
      dsimp only
      obtain ⟨I2, J3, e2, e3, e4, V2⟩ := h (up1 J1 (x + 694) (upz (J1 (x + 694)) 0 (w32 r)))
      have T1 := V2.T
      replace e2 : s_X11_classes (x + 678) v1 1 (sh1, I1, up1 J1 (x + 694) (upz (J1 (x + 694)) 0 (w32 r))) = some (r, (sh1, I2, J3)) := e2
      rw [uJ_m ar (by decide) (by decide), bsome, xb_r]
      dsimp only
      rw [g1, bsome, g2, bsome, if_neg hf]
      unfold s_L_law_b2563
      rw [t_ck T1, bsome, e2, bsome]
      dsimp only
      rw [t_ck T1, bsome, th_m T1, bsome]
      dsimp only
      rw [e4, if_pos rfl, if_pos (show w32 0 = 0 from rfl), aJ_m ar (by decide) (by decide), bsome, e3, up1_s, upz_s, if_pos rfl]
      exact ⟨_, _, _, rfl, V2⟩
    · have T1 := V2.T
      replace e2 : s_X11_classes (x + 678) v1 1 (sh1, I1, J1) = some (r, (sh1, I2, J2)) := e2
      rcases hk with ⟨hk, hc⟩ | ⟨hk, hn, hc⟩
      · subst hk; subst hc
        rw [e1, xb_l, if_pos rfl, xb_r]
        dsimp only
        rw [g1, bsome, g2, bsome, if_neg hf]
        unfold s_L_law_b2563
        rw [t_ck T1, bsome, e2, bsome]
        dsimp only
        rw [t_ck T1, bsome, th_m T1, bsome]
        dsimp only
        rw [e3, if_pos rfl, if_neg (by decide)]
        exact ⟨_, _, _, rfl, V2⟩
      · exact absurd rfl hn
theorem bl_224 (V : IV sh I x (c + 1)) (h0 : 0 ≤ i) (h1 : i + 6 ≤ n) (h2 : n ≤ 384) : NXT (s_L_law_b224 b n xs b x (x + 678) (x + 694) i (sh, I, J)) x c i := by
  obtain ⟨v1, g1, i1⟩ := gX_m (b := b) (n := n) (xs := xs) (j := i + 1) (by omega) (by omega) h2
  obtain ⟨v2, g2, i2⟩ := gX_m (b := b) (n := n) (xs := xs) (j := i + 2) (by omega) (by omega) h2
  obtain ⟨v3, g3, i3⟩ := gX_m (b := b) (n := n) (xs := xs) (j := i + 3) (by omega) (by omega) h2
  obtain ⟨v4, g4, i4⟩ := gX_m (b := b) (n := n) (xs := xs) (j := i + 4) (by omega) (by omega) h2
  obtain ⟨v5, g5, i5⟩ := gX_m (b := b) (n := n) (xs := xs) (j := i + 5) (by omega) (by omega) h2
  unfold s_L_law_b224
  obtain ⟨r, sh1, I1, J1, I2, J2, e1, T1, e2, V2⟩ := qd_feed (J := J) V (a := v1) (b := v2) (d := v3) (e := v4) (f := v5)
  replace e2 : s_X11_feed (x + 678) v1 v2 v3 v4 v5 (sh1, I1, J1) = some (r, (sh1, I2, J2)) := e2
  rw [g1, bsome, g2, bsome, g3, bsome, g4, bsome, g5, bsome, l_ck V.L, bsome, e1, bsome]
  dsimp only
  rw [bsome, bsome, bsome, bsome, bsome, t_ck T1, bsome, e2, bsome]
  dsimp only
  rw [if_pos rfl]
  exact ⟨_, _, _, rfl, V2⟩
theorem bl_297 (V : IV sh I x (c + 1)) (h0 : 0 ≤ i) (h1 : i + 6 ≤ n) (h2 : n ≤ 384) : NXT (s_L_law_b297 b n xs b x (x + 678) (x + 694) i (sh, I, J)) x c i := by
  obtain ⟨v1, g1, i1⟩ := gX_m (b := b) (n := n) (xs := xs) (j := i + 1) (by omega) (by omega) h2
  unfold s_L_law_b297
  obtain ⟨r, sh1, I1, J1, I2, J2, e1, T1, e2, V2⟩ := qd_end (J := J) V i1
  replace e2 : s_X11_end (x + 678) v1 (sh1, I1, J1) = some (r, (sh1, I2, J2)) := e2
  rw [g1, bsome, l_ck V.L, bsome, e1, bsome]
  dsimp only
  rw [bsome, t_ck T1, bsome, e2, bsome]
  dsimp only
  rw [if_pos rfl]
  exact ⟨_, _, _, rfl, V2⟩
theorem bl_538 (V : IV sh I x (c + 1)) (h0 : 0 ≤ i) (h1 : i + 6 ≤ n) (h2 : n ≤ 384) : NXT (s_L_law_b538 b n xs b x (x + 678) (x + 694) i (sh, I, J)) x c i := by
  unfold s_L_law_b538
  obtain ⟨r, sh1, I1, J1, I2, J2, e1, T1, e2, V2⟩ := qd_fault (J := J) V
  replace e2 : s_X11_fault (x + 678)  (sh1, I1, J1) = some (r, (sh1, I2, J2)) := e2
  rw [l_ck V.L, bsome, e1, bsome]
  dsimp only
  rw [t_ck T1, bsome, e2, bsome]
  dsimp only
  rw [if_pos rfl]
  exact ⟨_, _, _, rfl, V2⟩
theorem bl_830 (V : IV sh I x (c + 1)) (h0 : 0 ≤ i) (h1 : i + 6 ≤ n) (h2 : n ≤ 384) : NXT (s_L_law_b830 b n xs b x (x + 678) (x + 694) i (sh, I, J)) x c i := by
  unfold s_L_law_b830
  obtain ⟨r, sh1, I1, J1, I2, J2, e1, T1, e2, V2⟩ := qd_undo (J := J) V
  replace e2 : s_X11_undo (x + 678)  (sh1, I1, J1) = some (r, (sh1, I2, J2)) := e2
  rw [l_ck V.L, bsome, e1, bsome]
  dsimp only
  rw [t_ck T1, bsome, e2, bsome]
  dsimp only
  rw [if_pos rfl]
  exact ⟨_, _, _, rfl, V2⟩
theorem bl_843 (V : IV sh I x (c + 1)) (h0 : 0 ≤ i) (h1 : i + 6 ≤ n) (h2 : n ≤ 384) : NXT (s_L_law_b843 b n xs b x (x + 678) (x + 694) i (sh, I, J)) x c i := by
  unfold s_L_law_b843
  obtain ⟨r, sh1, I1, J1, I2, J2, e1, T1, e2, V2⟩ := qd_redo (J := J) V
  replace e2 : s_X11_redo (x + 678)  (sh1, I1, J1) = some (r, (sh1, I2, J2)) := e2
  rw [l_ck V.L, bsome, e1, bsome]
  dsimp only
  rw [t_ck T1, bsome, e2, bsome]
  dsimp only
  rw [if_pos rfl]
  exact ⟨_, _, _, rfl, V2⟩
theorem bl_2794 (V : IV sh I x (c + 1)) (h0 : 0 ≤ i) (h1 : i + 6 ≤ n) (h2 : n ≤ 384) : NXT (s_L_law_b2794 b n xs b x (x + 678) (x + 694) i (sh, I, J)) x c i := by
  unfold s_L_law_b2794
  obtain ⟨r, sh1, I1, J1, I2, J2, e1, T1, e2, V2⟩ := qd_back (J := J) V
  replace e2 : s_X11_back (x + 678)  (sh1, I1, J1) = some (r, (sh1, I2, J2)) := e2
  rw [l_ck V.L, bsome, e1, bsome]
  dsimp only
  rw [t_ck T1, bsome, e2, bsome]
  dsimp only
  rw [if_pos rfl]
  exact ⟨_, _, _, rfl, V2⟩
theorem bl_2807 (V : IV sh I x (c + 1)) (h0 : 0 ≤ i) (h1 : i + 6 ≤ n) (h2 : n ≤ 384) : NXT (s_L_law_b2807 b n xs b x (x + 678) (x + 694) i (sh, I, J)) x c i := by
  obtain ⟨v1, g1, i1⟩ := gX_m (b := b) (n := n) (xs := xs) (j := i + 1) (by omega) (by omega) h2
  unfold s_L_law_b2807
  obtain ⟨r, sh1, I1, J1, I2, J2, e1, T1, e2, V2⟩ := qd_stock (J := J) V i1
  replace e2 : s_X11_stock (x + 678) v1 (sh1, I1, J1) = some (r, (sh1, I2, J2)) := e2
  rw [g1, bsome, l_ck V.L, bsome, e1, bsome]
  dsimp only
  rw [bsome, t_ck T1, bsome, e2, bsome]
  dsimp only
  rw [if_pos rfl]
  exact ⟨_, _, _, rfl, V2⟩
theorem bl_2783 (V : IV sh I x (c + 1)) (h0 : 0 ≤ i) (h1 : i + 6 ≤ n) (h2 : n ≤ 384) : NXT (s_L_law_b2783 b n xs b x (x + 678) (x + 694) i (sh, I, J)) x c i := by
  unfold s_L_law_b2783
  obtain ⟨sh1, I1, J1, I2, J2, e1, T1, e2, V2⟩ := qd_image (J := J) V
  rw [l_ck V.L, bsome, e1, bsome, t_ck T1, bsome, e2, bsome]
  exact ⟨_, _, _, rfl, V2⟩
theorem bl_322 (V : IV sh I x (c + 1)) (h0 : 0 ≤ i) (h1 : i + 6 ≤ n) (h2 : n ≤ 384) : NXT (s_L_law_b322 b n xs b x (x + 678) (x + 694) i (sh, I, J)) x c i := by
  obtain ⟨v1, g1, i1⟩ := gX_m (b := b) (n := n) (xs := xs) (j := i + 1) (by omega) (by omega) h2
  unfold s_L_law_b322 s_X0_field
  rw [g1, bsome, l_ck V.L, bsome]
  rcases qd_field (J := J) V i1 with ⟨I1, I2, J2, e1, e2, e3, V2⟩ | ⟨k, cd, a, sh1, I1, J1, I2, J2, e1, hk, e2, e3, V2⟩
  · have T1 := V2.T
    rw [e1, xb_r, xb_r]
    dsimp only
    rw [bsome, t_ck T1, bsome, e2, bsome, t_ck T1, bsome, th_m T1, bsome]
    dsimp only
    rw [e3, if_pos rfl]
    exact ⟨_, _, _, rfl, V2⟩
  · have T1 := V2.T
    rcases hk with ⟨hk, hc⟩ | ⟨hk, hc⟩
    · subst hk; subst hc
      rw [e1, xb_l, if_pos rfl, xb_r]
      dsimp only
      rw [bsome, t_ck T1, bsome, e2, bsome, t_ck T1, bsome, th_m T1, bsome]
      dsimp only
      rw [e3, if_pos rfl]
      exact ⟨_, _, _, rfl, V2⟩
    · subst hk; subst hc
      rw [e1, xb_l, if_neg (show ¬ (1 : Nat) = 0 by decide), if_pos rfl, xb_r]
      dsimp only
      rw [bsome, t_ck T1, bsome, e2, bsome, t_ck T1, bsome, th_m T1, bsome]
      dsimp only
      rw [e3, if_pos rfl]
      exact ⟨_, _, _, rfl, V2⟩
end CLw
