/-! the twin: common, quotient, plain, overlap -/
set_option maxRecDepth 100000
def comP (p : Int) (F G : Fo) (k : Int) : Int := if nzI p F.2 (F.1 + 1) = 1 ∨ nzI p G.2 (G.1 + 1) = 1 then -2 else tellP (cmP p F G).1 (cmP p F G).2 p k
def dfF (F : Fo) (bx bz : Nat) : Fo := (F.1 - bx - bz, difP F.1 F.2 bx bz)
def plnP (p : Int) (F : Fo) : Int :=
  if F.1 < 2 ∨ nzI p F.2 (F.1 + 1) = 1 then 0
  else if nzI p (dfF F 1 0).2 F.1 = 1 ∨ nzI p (dfF F 0 1).2 F.1 = 1 then 0
  else if (cmP p (dfF F 1 0) (dfF F 0 1)).1 = 0 then 1 else 0
section TCo
variable {sh : Sh} {I J : Nat → Int → Int} {m : Nat} {p : Int}
theorem t_common (T : TL sh m) (hW : WI (I (m + 1))) {f g k : Int} (hf : i32 f) (hg : i32 g) (hk : i32 k) :
    ((0 ≤ f ∧ f < I (m + 1) 1) → (0 ≤ g ∧ g < I (m + 1) 1) → QG (s_X11_common m f g k (sh, I, J)) sh I J m (comP (I (m + 1) 0) (fF (I (m + 1)) f) (fF (I (m + 1)) g) k)) ∧
    (¬((0 ≤ f ∧ f < I (m + 1) 1) ∧ (0 ≤ g ∧ g < I (m + 1) 1)) → QB (s_X11_common m f g k (sh, I, J)) sh I J m 1) := by
  obtain ⟨W, hw⟩ : ∃ W, I (m + 1) = W := ⟨_, rfl⟩
  rw [hw] at hW ⊢
  have hc1 := hW.c1
  have hp := hW.pp
  have h0 : thr I m 0 (m + 1) = W := by rw [thr_n (by omega), hw]
  have e1 := t_noF (I := thr I m 0) (J := J) T (by rw [h0]; exact hc1) hf
  have e1' := t_noF (I := thr I m 0) (J := J) T (by rw [h0]; exact hc1) hg
  rw [h0] at e1 e1'
  refine ⟨fun h g9 => ?_, fun h => ?_⟩
  · rw [if_pos h] at e1
    rw [if_pos g9] at e1'
    obtain ⟨I2, e3, r3, f3⟩ := t_takesF (I := thr I m 0) (J := J) T h0 hW (r := 40) (by omega) h.1 h.2
    have hw3 : I2 (m + 1) = W := by rw [f3.w, h0]
    obtain ⟨I3, e4, r4, f4⟩ := t_takesF (I := I2) (J := J) T hw3 hW (r := 41) (by omega) g9.1 g9.2
    have hw4 : I3 (m + 1) = W := by rw [f4.w, hw3]
    have r3' := r3.keep f4 (by omega) (by omega) (by omega) (by have := (fF_1 (hW.f h.1 h.2)).2; omega)
    have hF8 := (fF_1 (hW.f h.1 h.2)).2
    have hG8 := (fF_1 (hW.f g9.1 g9.2)).2
    have kk : HK m (thr I m 0) I3 := f3.hk.trans f4.hk
    obtain ⟨F, hF⟩ : ∃ F, fF W f = F := ⟨_, rfl⟩
    obtain ⟨G, hG⟩ : ∃ G, fF W g = G := ⟨_, rfl⟩
    rw [hF] at r3' hF8 ⊢
    rw [hG] at r4 hG8 ⊢
    have e5 := t_isN (J := J) T hp (r := 40) (by omega) (by omega) r3'
    have e6 := t_isN (J := J) T hp (r := 41) (by omega) (by omega) r4
    rw [show ((F.1 : Int) + 1).toNat = F.1 + 1 by omega] at e5
    rw [show ((G.1 : Int) + 1).toNat = G.1 + 1 by omega] at e6
    unfold s_X11_common
    simp (disch := omega) only [t_thr T, bsome, t_ck T, e1, e1', w32_id (x := 0), if_pos, ifT]
    unfold s_X11_common_b27
    simp (disch := omega) only [t_ck T, bsome, t_if0, w32_id (x := 0), if_pos, e3, e4, e5, ifT]
    unfold comP
    rcases (nzI_iff (W 0) F.2 (F.1 + 1)).1 with h1 | h1
    · rw [h1, if_pos (show w32 0 = 0 from rfl)]
      simp (disch := omega) only [t_ck T, bsome, e6]
      rcases (nzI_iff (W 0) G.2 (G.1 + 1)).1 with h2 | h2
      · obtain ⟨I4, e7, r7, f7, d7⟩ := t_commons (J := J) T (p := W 0) (by rw [hw4]) hp (F := F) (G := G) (by omega) (by omega) r3' r4 (nz_not h1) (nz_not h2)
        have e8 := t_toldOf (J := J) T (r := 40) (F := cmP (W 0) F G) (by omega) d7 hk r7
        rw [h2, if_pos (show w32 0 = 0 from rfl), if_neg (show ¬((0 : Int) = 1 ∨ (0 : Int) = 1) by decide)]
        simp (disch := omega) only [t_ck T, bsome, e7, e8]
        exact ⟨_, _, rfl, kk.trans f7.hk, HJ.refl⟩
      · rw [h2, if_neg (show ¬ w32 1 = 0 by decide), if_pos (Or.inr rfl)]
        exact ⟨_, _, rfl, kk, HJ.refl⟩
    · rw [h1, if_neg (show ¬ w32 1 = 0 by decide), if_pos (Or.inl rfl)]
      exact ⟨_, _, rfl, kk, HJ.refl⟩
  · have key : s_X11_common m f g k (sh, I, J) = s_X11_common_b22 m f g k m (sh, thr I m 0, J) := by
      unfold s_X11_common
      simp (disch := omega) only [t_thr T, bsome, t_ck T, e1, e1']
      by_cases h1 : 0 ≤ f ∧ f < W 1
      · rw [if_pos h1, if_neg (fun h2 => h ⟨h1, h2⟩)]
        simp (disch := omega) only [w32_id, if_pos, if_neg, ifT]
      · rw [if_neg h1]
        simp (disch := omega) only [w32_id, if_neg, ifT]
    rw [key]
    unfold s_X11_common_b22 s_X11_common_b27
    simp (disch := omega) only [t_ck T, bsome, t_if1 T, w32_id, if_neg, thr_thr, ifT]
    exact ⟨_, _, _, rfl, HK.refl, HJ.refl⟩
theorem t_quotient (T : TL sh m) (hW : WI (I (m + 1))) {f g k : Int} (hf : i32 f) (hg : i32 g) (hk : i32 k) :
    ((0 ≤ f ∧ f < I (m + 1) 1) → (0 ≤ g ∧ g < I (m + 1) 1) → QG (s_X11_quotient m f g k (sh, I, J)) sh I J m (vlP (I (m + 1) 0) k (qtP (I (m + 1) 0) (fF (I (m + 1)) f) (fF (I (m + 1)) g)))) ∧
    (¬((0 ≤ f ∧ f < I (m + 1) 1) ∧ (0 ≤ g ∧ g < I (m + 1) 1)) → QB (s_X11_quotient m f g k (sh, I, J)) sh I J m 1) := by
  obtain ⟨W, hw⟩ : ∃ W, I (m + 1) = W := ⟨_, rfl⟩
  rw [hw] at hW ⊢
  have hc1 := hW.c1
  have hp := hW.pp
  have h0 : thr I m 0 (m + 1) = W := by rw [thr_n (by omega), hw]
  have e1 := t_noF (I := thr I m 0) (J := J) T (by rw [h0]; exact hc1) hf
  have e1' := t_noF (I := thr I m 0) (J := J) T (by rw [h0]; exact hc1) hg
  rw [h0] at e1 e1'
  refine ⟨fun h g9 => ?_, fun h => ?_⟩
  · rw [if_pos h] at e1
    rw [if_pos g9] at e1'
    obtain ⟨I2, e3, r3, f3⟩ := t_takesF (I := thr I m 0) (J := J) T h0 hW (r := 40) (by omega) h.1 h.2
    have hw3 : I2 (m + 1) = W := by rw [f3.w, h0]
    obtain ⟨I3, e4, r4, f4⟩ := t_takesF (I := I2) (J := J) T hw3 hW (r := 41) (by omega) g9.1 g9.2
    have hw4 : I3 (m + 1) = W := by rw [f4.w, hw3]
    have r3' := r3.keep f4 (by omega) (by omega) (by omega) (by have := (fF_1 (hW.f h.1 h.2)).2; omega)
    have hF8 := (fF_1 (hW.f h.1 h.2)).2
    have hG8 := (fF_1 (hW.f g9.1 g9.2)).2
    have kk : HK m (thr I m 0) I3 := f3.hk.trans f4.hk
    obtain ⟨F, hF⟩ : ∃ F, fF W f = F := ⟨_, rfl⟩
    obtain ⟨G, hG⟩ : ∃ G, fF W g = G := ⟨_, rfl⟩
    rw [hF] at r3' hF8 ⊢
    rw [hG] at r4 hG8 ⊢
    obtain ⟨q1, q2⟩ := t_hasQuotient (J := J) T (p := W 0) (by rw [hw4]) hp (F := F) (G := G) (by omega) (by omega) r3' r4
    unfold s_X11_quotient
    simp (disch := omega) only [t_thr T, bsome, t_ck T, e1, e1', w32_id (x := 0), if_pos, ifT]
    unfold s_X11_quotient_b27
    simp (disch := omega) only [t_ck T, bsome, t_if0, w32_id (x := 0), if_pos, e3, e4, ifT]
    cases hq : qtP (W 0) F G with
    | none =>
      obtain ⟨I4, e7, f7⟩ := q1 hq
      simp (disch := omega) only [bsome, e7, w32_id (x := 0), if_pos, ifT]
      exact ⟨_, _, rfl, kk.trans f7.hk, HJ.refl⟩
    | some q =>
      obtain ⟨d7, I4, e7, r7, f7⟩ := q2 q hq
      have e8 := t_toldOf (J := J) T (r := 42) (F := q) (by omega) (by omega) hk r7
      simp (disch := omega) only [t_ck T, bsome, e7, w32_id (x := 1), if_neg, e8, ifT]
      exact ⟨_, _, rfl, kk.trans f7.hk, HJ.refl⟩
  · have key : s_X11_quotient m f g k (sh, I, J) = s_X11_quotient_b22 m f g k m (sh, thr I m 0, J) := by
      unfold s_X11_quotient
      simp (disch := omega) only [t_thr T, bsome, t_ck T, e1, e1']
      by_cases h1 : 0 ≤ f ∧ f < W 1
      · rw [if_pos h1, if_neg (fun h2 => h ⟨h1, h2⟩)]
        simp (disch := omega) only [w32_id, if_pos, if_neg, ifT]
      · rw [if_neg h1]
        simp (disch := omega) only [w32_id, if_neg, ifT]
    rw [key]
    unfold s_X11_quotient_b22 s_X11_quotient_b27
    simp (disch := omega) only [t_ck T, bsome, t_if1 T, w32_id, if_neg, thr_thr, ifT]
    exact ⟨_, _, _, rfl, HK.refl, HJ.refl⟩
theorem t_plain (T : TL sh m) (hW : WI (I (m + 1))) {f : Int} (hf : i32 f) :
    ((0 ≤ f ∧ f < I (m + 1) 1) → QG (s_X11_plain m f (sh, I, J)) sh I J m (plnP (I (m + 1) 0) (fF (I (m + 1)) f))) ∧
    (¬(0 ≤ f ∧ f < I (m + 1) 1) → QB (s_X11_plain m f (sh, I, J)) sh I J m 1) := by
  obtain ⟨W, hw⟩ : ∃ W, I (m + 1) = W := ⟨_, rfl⟩
  rw [hw] at hW ⊢
  have hc1 := hW.c1
  have hp := hW.pp
  have h0 : thr I m 0 (m + 1) = W := by rw [thr_n (by omega), hw]
  have e1 := t_noF (I := thr I m 0) (J := J) T (by rw [h0]; exact hc1) hf
  rw [h0] at e1
  refine ⟨fun h => ?_, fun h => ?_⟩
  · rw [if_pos h] at e1
    obtain ⟨I2, e3, r3, f3⟩ := t_takesF (I := thr I m 0) (J := J) T h0 hW (r := 44) (by omega) h.1 h.2
    have hw3 : I2 (m + 1) = W := by rw [f3.w, h0]
    have hF8 := (fF_1 (hW.f h.1 h.2)).2
    obtain ⟨F, hF⟩ : ∃ F, fF W f = F := ⟨_, rfl⟩
    rw [hF] at r3 hF8 ⊢
    have e4 := t_isN (J := J) T hp (r := 44) (by omega) (by omega) r3
    rw [show ((F.1 : Int) + 1).toNat = F.1 + 1 by omega] at e4
    unfold s_X11_plain plnP
    simp (disch := omega) only [t_thr T, bsome, t_ck T, e1, t_if0, w32_id (x := 0), if_pos, e3, ifT]
    simp (disch := omega) only [bsome, t_ck T, t_gI T, t_pI T, t_gJ T, t_pJ T, tR_deg T, tA_deg T, tU_deg T, r3.1, w32_id (x := (F.1 : Int)), w32_id (x := 2), e4]
    by_cases h1 : F.1 < 2
    · rw [if_pos (show (F.1 : Int) < 2 by omega), if_pos (Or.inl h1)]
      exact ⟨_, _, rfl, f3.hk, HJ.refl⟩
    rw [if_neg (show ¬ (F.1 : Int) < 2 by omega)]
    rcases (nzI_iff (W 0) F.2 (F.1 + 1)).1 with h2 | h2
    · rw [h2, if_pos (show w32 0 = 0 from rfl), if_neg (show ¬(F.1 < 2 ∨ (0 : Int) = 1) by omega)]
      obtain ⟨I3, e5, r5, f5⟩ := t_differentiates (J := J) (r := 44) (to := 40) (bx := 1) (bz := 0) (n := F.1) T (p := W 0) (by rw [hw3]) hp (by omega) (by omega) (by omega) (by omega) (by omega) (by omega) r3
      have r3a := r3.keep f5 (by omega) (by omega) (by omega) (by omega)
      have hw5 : I3 (m + 1) = W := by rw [f5.w, hw3]
      obtain ⟨I4, e6, r6, f6⟩ := t_differentiates (J := J) (r := 44) (to := 41) (bx := 0) (bz := 1) (n := F.1) T (p := W 0) (by rw [hw5]) hp (by omega) (by omega) (by omega) (by omega) (by omega) (by omega) r3a
      have hw6 : I4 (m + 1) = W := by rw [f6.w, hw5]
      have r5a := r5.keep f6 (by omega) (by omega) (by omega) (by omega)
      obtain ⟨A, hA⟩ : ∃ A, dfF F 1 0 = A := ⟨_, rfl⟩
      obtain ⟨B, hB⟩ : ∃ B, dfF F 0 1 = B := ⟨_, rfl⟩
      have A1 : (A.1 : Int) = F.1 - 1 - 0 := by rw [← hA]; show ((F.1 - 1 - 0 : Nat) : Int) = _; omega
      have B1 : (B.1 : Int) = F.1 - 0 - 1 := by rw [← hB]; show ((F.1 - 0 - 1 : Nat) : Int) = _; omega
      have rA : RW I4 m (W 0) 40 A.1 A.2 := by rw [A1, ← hA]; exact r5a
      have rB : RW I4 m (W 0) 41 B.1 B.2 := by rw [B1, ← hB]; exact r6
      have e7 := t_isN (J := J) T hp (r := 40) (by omega) (by omega) rA
      have e8 := t_isN (J := J) T hp (r := 41) (by omega) (by omega) rB
      rw [show ((A.1 : Int) + 1).toNat = F.1 by omega] at e7
      rw [show ((B.1 : Int) + 1).toNat = F.1 by omega] at e8
      rw [hA, hB]
      have kk : HK m (thr I m 0) I4 := (f3.hk.trans f5.hk).trans f6.hk
      simp (disch := omega) only [t_ck T, bsome, e5, e6, e7]
      rcases (nzI_iff (W 0) A.2 F.1).1 with h3 | h3
      · rw [h3, if_pos (show w32 0 = 0 from rfl)]
        simp (disch := omega) only [t_ck T, bsome, e8]
        rcases (nzI_iff (W 0) B.2 F.1).1 with h4 | h4
        · rw [h4, if_pos (show w32 0 = 0 from rfl), if_neg (show ¬((0 : Int) = 1 ∨ (0 : Int) = 1) by decide)]
          obtain ⟨I5, e9, r9, f9, d9⟩ := t_commons (J := J) T (p := W 0) (by rw [hw6]) hp (F := A) (G := B) (by omega) (by omega) rA rB (nz_not (by rw [show A.1 + 1 = F.1 by omega]; exact h3)) (nz_not (by rw [show B.1 + 1 = F.1 by omega]; exact h4))
          simp (disch := omega) only [bsome, t_ck T, t_gI T, t_pI T, t_gJ T, t_pJ T, tR_deg T, tA_deg T, tU_deg T, e9, r9.1, w32_id (x := ((cmP (W 0) A B).1 : Int))]
          by_cases h5 : (cmP (W 0) A B).1 = 0
          · rw [if_pos (show ((cmP (W 0) A B).1 : Int) = 0 by omega), if_pos h5]
            exact ⟨_, _, rfl, kk.trans f9.hk, HJ.refl⟩
          · rw [if_neg (show ¬ ((cmP (W 0) A B).1 : Int) = 0 by omega), if_neg h5]
            exact ⟨_, _, rfl, kk.trans f9.hk, HJ.refl⟩
        · rw [h4, if_neg (show ¬ w32 1 = 0 by decide), if_pos (Or.inr rfl)]
          exact ⟨_, _, rfl, kk, HJ.refl⟩
      · rw [h3, if_neg (show ¬ w32 1 = 0 by decide), if_pos (Or.inl rfl)]
        exact ⟨_, _, rfl, kk, HJ.refl⟩
    · rw [h2, if_neg (show ¬ w32 1 = 0 by decide), if_pos (Or.inr rfl)]
      exact ⟨_, _, rfl, f3.hk, HJ.refl⟩
  · rw [if_neg h] at e1
    unfold s_X11_plain
    simp (disch := omega) only [t_thr T, bsome, t_ck T, e1, t_if1 T, w32_id, if_neg, thr_thr, ifT]
    exact ⟨_, _, _, rfl, HK.refl, HJ.refl⟩
theorem t_overlap (T : TL sh m) (hW : WI (I (m + 1))) {f g b k : Int} (hf : i32 f) (hg : i32 g) (hb : i32 b) (hk : i32 k) :
    ((0 ≤ f ∧ f < I (m + 1) 1) → (0 ≤ g ∧ g < I (m + 1) 1) → (0 ≤ b ∧ b ≤ fD (I (m + 1)) f ∧ b ≤ fD (I (m + 1)) g) → QG (s_X11_overlap m f g b k (sh, I, J)) sh I J m
      (tellP (fD (I (m + 1)) f + fD (I (m + 1)) g - 2 * b) (ovP (fD (I (m + 1)) f) (fD (I (m + 1)) g) b.toNat (fC (I (m + 1)) f) (fC (I (m + 1)) g)) (I (m + 1) 0) k)) ∧
    (¬((0 ≤ f ∧ f < I (m + 1) 1) ∧ (0 ≤ g ∧ g < I (m + 1) 1)) → QB (s_X11_overlap m f g b k (sh, I, J)) sh I J m 1) ∧
    ((0 ≤ f ∧ f < I (m + 1) 1) → (0 ≤ g ∧ g < I (m + 1) 1) → ¬(0 ≤ b ∧ b ≤ fD (I (m + 1)) f ∧ b ≤ fD (I (m + 1)) g) → QB (s_X11_overlap m f g b k (sh, I, J)) sh I J m 2) := by
  obtain ⟨W, hw⟩ : ∃ W, I (m + 1) = W := ⟨_, rfl⟩
  rw [hw] at hW ⊢
  have hc1 := hW.c1
  have hp := hW.pp
  have h0 : thr I m 0 (m + 1) = W := by rw [thr_n (by omega), hw]
  have e1 := t_noF (I := thr I m 0) (J := J) T (by rw [h0]; exact hc1) hf
  have e1' := t_noF (I := thr I m 0) (J := J) T (by rw [h0]; exact hc1) hg
  rw [h0] at e1 e1'
  have d2 : ∀ x : Int, (0 ≤ x ∧ x < W 1) → s_X11_degreeOf m x (sh, thr I m 0, J) = some (fD W x, (sh, thr I m 0, J)) := by
    intro x hx
    have := t_degreeOf (I := thr I m 0) (J := J) T hx.1 (show x < 16 by omega)
    rwa [h0] at this
  refine ⟨fun h g9 hbb => ?_, fun h => ?_, fun h g9 hbb => ?_⟩
  · have df := d2 f h
    have dg := d2 g g9
    have hFf := hW.f h.1 h.2
    have hFg := hW.f g9.1 g9.2
    have bf := hFf.1
    have bg := hFg.1
    have ff1 := (fF_1 hFf).1
    have fg1 := (fF_1 hFg).1
    have ff2 : (fF W f).2 = fC W f := rfl
    have fg2 : (fF W g).2 = fC W g := rfl
    rw [← ff1] at df hbb ⊢
    rw [← fg1] at dg hbb ⊢
    rw [← ff2, ← fg2]
    rw [if_pos h] at e1
    rw [if_pos g9] at e1'
    obtain ⟨I2, e3, r3, f3⟩ := t_takesF (I := thr I m 0) (J := J) T h0 hW (r := 40) (by omega) h.1 h.2
    have hw3 : I2 (m + 1) = W := by rw [f3.w, h0]
    obtain ⟨I3, e4, r4, f4⟩ := t_takesF (I := I2) (J := J) T hw3 hW (r := 41) (by omega) g9.1 g9.2
    have hw4 : I3 (m + 1) = W := by rw [f4.w, hw3]
    have r3' := r3.keep f4 (by omega) (by omega) (by omega) (by have := (fF_1 (hW.f h.1 h.2)).2; omega)
    have hF8 := (fF_1 (hW.f h.1 h.2)).2
    have hG8 := (fF_1 (hW.f g9.1 g9.2)).2
    have kk : HK m (thr I m 0) I3 := f3.hk.trans f4.hk
    obtain ⟨F, hF⟩ : ∃ F, fF W f = F := ⟨_, rfl⟩
    obtain ⟨G, hG⟩ : ∃ G, fF W g = G := ⟨_, rfl⟩
    rw [hF] at r3' hF8 ⊢
    rw [hG] at r4 hG8 ⊢
    rw [hF] at df hbb
    rw [hG] at dg hbb
    obtain ⟨b', hb'⟩ : ∃ b' : Nat, b = b' := ⟨b.toNat, by omega⟩
    subst hb'
    obtain ⟨I4, e5, r5, f5⟩ := t_overlaps (J := J) T (p := W 0) (by rw [hw4]) hp (r := 40) (q := 41) (to := 42) (k := b') (by omega) (by omega) (by omega) (by omega) (by omega) (by omega) (by omega) (by omega) (by omega) r3' r4
    obtain ⟨D, hD⟩ : ∃ D : Nat, (F.1 : Int) + G.1 - 2 * b' = D := ⟨((F.1 : Int) + G.1 - 2 * b').toNat, by omega⟩
    rw [hD] at r5 ⊢
    have e6 := t_toldOf (J := J) T (r := 42) (k := k) (F := (D, ovP F.1 G.1 b' F.2 G.2)) (by omega) (show D ≤ 40 by omega) hk r5
    unfold s_X11_overlap
    simp (disch := omega) only [t_thr T, bsome, t_ck T, e1, e1', w32_id (x := 0), if_pos, ifT]
    unfold s_X11_overlap_b27
    simp (disch := omega) only [t_ck T, bsome, t_if0, w32_id (x := 0), if_pos, df, dg, ifT]
    rw [x_min ⟨by omega, by omega⟩ ⟨by omega, by omega⟩, bsome]
    dsimp only
    rw [x_in hb ⟨by omega, by omega⟩ ⟨by omega, by omega⟩, bsome, if_pos (show 0 ≤ (b' : Int) ∧ (b' : Int) ≤ min (F.1 : Int) G.1 by omega)]
    dsimp only
    rw [if_neg (show ¬ w32 1 = 0 by decide)]
    unfold s_X11_overlap_b61
    simp (disch := omega) only [t_ck T, bsome, t_if0, w32_id (x := 0), if_pos, e3, e4, e5, e6, ifT]
    rw [Int.toNat_natCast]
    exact ⟨_, _, rfl, kk.trans f5.hk, HJ.refl⟩
  · have key : s_X11_overlap m f g b k (sh, I, J) = s_X11_overlap_b22 m f g b k m (sh, thr I m 0, J) := by
      unfold s_X11_overlap
      simp (disch := omega) only [t_thr T, bsome, t_ck T, e1, e1']
      by_cases h1 : 0 ≤ f ∧ f < W 1
      · rw [if_pos h1, if_neg (fun h2 => h ⟨h1, h2⟩)]
        simp (disch := omega) only [w32_id, if_pos, if_neg, ifT]
      · rw [if_neg h1]
        simp (disch := omega) only [w32_id, if_neg, ifT]
    rw [key]
    unfold s_X11_overlap_b22 s_X11_overlap_b27
    simp (disch := omega) only [t_ck T, bsome, t_if1 T, w32_id, if_neg, thr_thr, ifT]
    exact ⟨_, _, _, rfl, HK.refl, HJ.refl⟩
  · have df := d2 f h
    have dg := d2 g g9
    have bf := (hW.f h.1 h.2).1
    have bg := (hW.f g9.1 g9.2).1
    rw [if_pos h] at e1
    rw [if_pos g9] at e1'
    unfold s_X11_overlap
    simp (disch := omega) only [t_thr T, bsome, t_ck T, e1, e1', w32_id (x := 0), if_pos, ifT]
    unfold s_X11_overlap_b27
    simp (disch := omega) only [t_ck T, bsome, t_if0, w32_id (x := 0), if_pos, df, dg, ifT]
    rw [x_min ⟨by omega, by omega⟩ ⟨by omega, by omega⟩, bsome]
    dsimp only
    rw [x_in hb ⟨by omega, by omega⟩ ⟨by omega, by omega⟩, bsome, if_neg (show ¬(0 ≤ b ∧ b ≤ min (fD W f) (fD W g)) by omega)]
    dsimp only
    rw [if_pos (show w32 0 = 0 from rfl)]
    unfold s_X11_overlap_b61
    simp (disch := omega) only [t_ck T, bsome, t_if1 T, w32_id, if_neg, thr_thr, ifT]
    exact ⟨_, _, _, rfl, HK.refl, HJ.refl⟩
end TCo
