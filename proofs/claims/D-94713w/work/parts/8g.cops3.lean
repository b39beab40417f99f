/-! the component: overlap, agree, stays -/
set_option maxRecDepth 100000
section CQ
variable {sh : Sh} {I J : Nat → Int → Int} {x : Nat} {p : Int} {W : Int → Int}
theorem x_overlap (L : CL sh x) (R : Room sh) (hS : SR sh I (x + 16) W) (hI : I (x + 5 + 1) 0 = W 0) (hW : WI W) {f g b k : Int} (hf : i32 f) (hg : i32 g) (hb : i32 b) (hk : i32 k) :
    ((0 ≤ f ∧ f < W 1) → (0 ≤ g ∧ g < W 1) → (0 ≤ b ∧ b ≤ fD W f ∧ b ≤ fD W g) → CG (s_X1_overlap x f g b k (sh, I, J)) sh I J x (tellP (fD W f + fD W g - 2 * b) (ovP (fD W f) (fD W g) b.toNat (fC W f) (fC W g)) (W 0) k)) ∧
    (¬((0 ≤ f ∧ f < W 1) ∧ (0 ≤ g ∧ g < W 1)) → CB (s_X1_overlap x f g b k (sh, I, J)) sh I J 3) ∧
    ((0 ≤ f ∧ f < W 1) → (0 ≤ g ∧ g < W 1) → ¬(0 ≤ b ∧ b ≤ fD W f ∧ b ≤ fD W g) → CB (s_X1_overlap x f g b k (sh, I, J)) sh I J 0) := by
  have hc1 := hW.c1
  have D := L.dl
  unfold i32 at hb
  obtain ⟨y1, y2⟩ := x1_formAt (J := J) L R (n := W 1) hS.1.1.2.1 (by omega) hf
  obtain ⟨z1, z2⟩ := x1_formAt (J := J) L R (n := W 1) hS.1.1.2.1 (by omega) hg
  have run : (0 ≤ f ∧ f < W 1) → (0 ≤ g ∧ g < W 1) → s_X1_overlap x f g b k (sh, I, J) = xb (s_X1_must (if 0 ≤ b ∧ b ≤ min (fD W f) (fD W g) then 1 else 0) (sh, I, J)) (fun e12 => some (.inl e12)) fun q11 =>
      (gR q11 0 x 1).bind fun v13 => (gR q11 0 x 5).bind fun v14 => (ck q11 4 v13).bind fun _ => (s_X6_overlap v13 (x + 16 + 13 + 2 * f.toNat) (x + 16 + 13 + 2 * g.toNat) b v14 q11).bind fun q15 => (gR q15 0 x 5).bind fun v17 => (s_X1_tells v17 k q15).bind fun q18 => some (.inr (q18.1, q18.2)) := by
    intro h1 h2
    obtain ⟨f1, f2⟩ := hS.fm hW h1.1 h1.2
    obtain ⟨g1, g2⟩ := hS.fm hW h2.1 h2.2
    unfold s_X1_overlap
    rw [l_ck L, bsome, y1 h1, xb_r, l_ck L, bsome, z1 h2, xb_r, f_gI (L.q (k := f) (by omega)), bsome, f1.1, f_gI (L.q (k := g) (by omega)), bsome, g1.1, x_min ⟨by omega, by omega⟩ ⟨by omega, by omega⟩, bsome]
    dsimp only
    rw [w32_id hb.1 hb.2, w32_id (x := min (fD W f) (fD W g)) (by omega) (by omega), x1_isIn (by omega) (by omega) (by omega), bsome]
  refine ⟨fun h1 h2 h3 => ?_, fun h => ?_, fun h1 h2 h3 => ?_⟩
  · obtain ⟨f1, f2⟩ := hS.fm hW h1.1 h1.2
    obtain ⟨g1, g2⟩ := hS.fm hW h2.1 h2.2
    obtain ⟨n, hn⟩ : ∃ n : Nat, fD W f = n := ⟨(fD W f).toNat, by omega⟩
    obtain ⟨l, hl⟩ : ∃ l : Nat, fD W g = l := ⟨(fD W g).toNat, by omega⟩
    obtain ⟨c, hc⟩ : ∃ c : Nat, b = c := ⟨b.toNat, by omega⟩
    rw [run h1 h2, if_pos (by omega), x1_must1, xb_r, l_dk L, bsome, l_wk L, bsome, d_ck D, bsome]
    rw [hn] at f1 h3 f2 ⊢
    rw [hl] at g1 h3 g2 ⊢
    rw [hc] at h3 ⊢
    obtain ⟨I1, e1, e2, e3⟩ := (x6_overlap (J := J) (k := c) D hI hW.pp (L.q (k := f) (by omega)) (L.q (k := g) (by omega)) L.fw (by omega) (by omega) (by omega) (by omega) (by omega) (by omega) f1 g1).1 (by omega)
    refine ⟨I1, ?_, e3.mono (fun a ha => by unfold xS; omega)⟩
    rw [e1, bsome, l_wk L, bsome, x1_tells L.fw (by omega) hk e2, bsome, Int.toNat_natCast]
  · unfold CB s_X1_overlap
    rw [l_ck L, bsome]
    by_cases g1 : 0 ≤ f ∧ f < W 1
    · have := z2 (fun e => h ⟨g1, e⟩)
      unfold CB at this
      rw [y1 g1, xb_r, l_ck L, bsome, this, xb_l]
    · have := y2 g1
      unfold CB at this
      rw [this, xb_l]
  · unfold CB
    rw [run h1 h2, if_neg (by omega), x1_must0 R, xb_l]
theorem x_agree (L : CL sh x) (R : Room sh) (hS : SR sh I (x + 16) W) (hI : I (x + 5 + 1) 0 = W 0) (hW : WI W) {s u d : Int} (hs : i32 s) (hu : i32 u) (hd : i32 d) :
    ((0 ≤ s ∧ s < W 3) → (0 ≤ u ∧ u < W 3) → (0 ≤ d ∧ d ≤ 8) → ∃ t1 t2 : TT, SgW W s t1.1 t1.2 ∧ SgW W u t2.1 t2.2 ∧ CG (s_X1_agree x s u d (sh, I, J)) sh I J x (fst0 (agP W d (fun F => Tr.val F t1.1 t1.2) (fun F => Tr.val F t2.1 t2.2)) (W 1).toNat 0)) ∧
    (¬((0 ≤ s ∧ s < W 3) ∧ (0 ≤ u ∧ u < W 3)) → CB (s_X1_agree x s u d (sh, I, J)) sh I J 3) ∧
    (((0 ≤ s ∧ s < W 3) ∧ (0 ≤ u ∧ u < W 3)) → ¬(0 ≤ d ∧ d ≤ 8) → CB (s_X1_agree x s u d (sh, I, J)) sh I J 0) := by
  have hc1 := hW.c1
  have hc3 := hW.c3
  have T := L.st
  unfold i32 at hd
  obtain ⟨y1, y2⟩ := x1_signAt (J := J) L R (n := W 3) hS.1.1.2.2.2 (by omega) hs
  obtain ⟨z1, z2⟩ := x1_signAt (J := J) L R (n := W 3) hS.1.1.2.2.2 (by omega) hu
  have run : ∀ a b : Nat, (0 ≤ s ∧ s < W 3) → (0 ≤ u ∧ u < W 3) → sh.2.2.2 (x + 16 + 11) s = some a → sh.2.2.2 (x + 16 + 11) u = some b → s_X1_agree x s u d (sh, I, J) = xb (s_X1_must (if 0 ≤ d ∧ d ≤ 8 then 1 else 0) (sh, I, J)) (fun e9 => some (.inl e9)) fun q8 => s_X1_agree_l29 x d a b 0 q8 := by
    intro a b h1 h2 ha hb
    unfold s_X1_agree
    rw [l_ck L, bsome, y1 h1 a ha, xb_r, l_ck L, bsome, z1 h2 b hb, xb_r, w32_id hd.1 hd.2, x1_isIn (by omega) (by omega) (by omega), bsome]
  refine ⟨fun h1 h2 h3 => ?_, fun h => ?_, fun h h3 => ?_⟩
  · obtain ⟨t, a, t1, t2, t3, t4⟩ := hS.sg h1.1 h1.2
    obtain ⟨v, b, v1, v2, v3, v4⟩ := hS.sg h2.1 h2.2
    refine ⟨t, v, t2, v2, ?_⟩
    rw [run a b h1 h2 t1 v1, if_pos h3, x1_must1, xb_r]
    have key : ∀ (n i : Nat) (I' : Nat → Int → Int), (i : Int) + n = W 1 → AF (xS x) I I' → ∃ I2, s_X1_agree_l29 x d a b i (sh, I', J) = some (.inr (fst0 (agP W d (fun F => Tr.val F t.1 t.2) (fun F => Tr.val F v.1 v.2)) n i, (sh, I2, J))) ∧ AF (xS x) I I2 := by
      intro n
      induction n with
      | zero =>
        intro i I' hi hA
        have c5 : I' (x + 16) 5 = W 1 := by rw [hA (x + 16) (by unfold xS; omega)]; exact hS.1.1.2.1
        rw [e_X1_agree_l29]
        unfold s_X1_agree_l29_st
        rw [l_st L, bsome, s_gI T, bsome, c5, w32_id (x := W 1) (by omega) (by omega), w32_id (x := (i : Int)) (by omega) (by omega), if_pos (by omega)]
        exact ⟨I', rfl, hA⟩
      | succ n ih =>
        intro i I' hi hA
        have c5 : I' (x + 16) 5 = W 1 := by rw [hA (x + 16) (by unfold xS; omega)]; exact hS.1.1.2.1
        have hI' : I' (x + 5 + 1) 0 = W 0 := by rw [xS.f hA]; exact hI
        obtain ⟨g1, g2⟩ := hS.ff hW (k := (i : Int)) (by omega) (by omega)
        obtain ⟨m1, m2⟩ := hS.fm hW (k := (i : Int)) (by omega) (by omega)
        have hQ := L.q (k := (i : Int)) (by omega)
        rw [Int.toNat_natCast] at g1 m1 hQ
        have g4 := xS.q hA g1 (by omega) (by omega)
        have hdeg : I' (x + 16 + 13 + 2 * i) 1 = fD W i := by rw [hA _ (by unfold xS; omega)]; exact m1.1
        have ef : fst0 (agP W d (fun F => Tr.val F t.1 t.2) (fun F => Tr.val F v.1 v.2)) (n + 1) i = if agP W d (fun F => Tr.val F t.1 t.2) (fun F => Tr.val F v.1 v.2) i = 0 then (i : Int) else fst0 (agP W d (fun F => Tr.val F t.1 t.2) (fun F => Tr.val F v.1 v.2)) n (i + 1) := rfl
        have ea : agP W d (fun F => Tr.val F t.1 t.2) (fun F => Tr.val F v.1 v.2) i = if fD W i = d then alk (W 0) (Tr.val (fF W i) t.1 t.2) (Tr.val (fF W i) v.1 v.2) else 1 := rfl
        have hd1 : ∀ z, Tr.val (fF W i) t.1 t.2 = some z → z.1 ≤ 40 := fun z h => Tr.val_d (by omega) _ _ z h
        have hd2 : ∀ z, Tr.val (fF W i) v.1 v.2 = some z → z.1 ≤ 40 := fun z h => Tr.val_d (by omega) _ _ z h
        rw [e_X1_agree_l29]
        unfold s_X1_agree_l29_st
        rw [l_st L, bsome, s_gI T, bsome, c5, w32_id (x := W 1) (by omega) (by omega), w32_id (x := (i : Int)) (by omega) (by omega), if_neg (by omega), bsome, s_fo T, bsome, s_form T (by omega), bsome, f_gI hQ, bsome, hdeg, w32_id (by omega) (by omega), w32_id hd.1 hd.2]
        by_cases hdd : fD W i = d
        · rw [if_pos hdd] at ea ⊢
          obtain ⟨I1, e1, e2, e3⟩ := x1_valueOf (J := J) L hI' hW.pp (F := fF W i) (by omega) hQ (by omega) g4 (L.sa hA t3) t2.2.2.2.1 t2.2.2.2.2 t4
          have G := L.cv.fs (k := 0) (by omega)
          have e3 := vS_x e3
          obtain ⟨I2, b1, b2, b3⟩ := x8_beV (J := J) L.fw G (by omega) hd1 e2
          have b3 : AF (xS x) I1 I2 := b3.mono (fun a ha => by unfold xS; omega)
          have A2 := (hA.trans e3).trans b3
          obtain ⟨I3, r1, r2, r3⟩ := x1_valueOf (J := J) L (I := I2) (by rw [xS.f A2]; exact hI) hW.pp (F := fF W i) (by omega) hQ (by omega) (xS.q A2 g1 (by omega) (by omega)) (L.sa A2 v3) v2.2.2.2.1 v2.2.2.2.2 v4
          have b5 := b2.keep r3 (by unfold vS; omega) (by unfold vS; omega)
          have r3 := vS_x r3
          rw [l_wk L, bsome, bsome, s_fo T, bsome, s_form T (by omega), bsome, l_ck L, bsome, e1, bsome]
          dsimp only
          rw [f_ck L.fw, bsome, b1, bsome, l_wk L, bsome, l_st L, bsome, s_fo T, bsome, s_form T (by omega), bsome, l_ck L, bsome, r1, bsome]
          dsimp only
          rw [f_ck L.fw, bsome, x8_sameV L.fw G hW.pp hd1 hd2 b5 r2, bsome]
          dsimp only
          rw [ef, ea]
          rcases alk_b (W 0) (Tr.val (fF W i) t.1 t.2) (Tr.val (fF W i) v.1 v.2) with h0 | h0
          · rw [h0, if_pos (show w32 0 = 0 from rfl), if_pos rfl]
            exact ⟨I3, rfl, A2.trans r3⟩
          · rw [h0, if_neg (show ¬ w32 1 = 0 by decide), if_neg (by decide)]
            obtain ⟨I4, q1, q2⟩ := ih (i + 1) I3 (by omega) (A2.trans r3)
            exact ⟨I4, q1, q2⟩
        · rw [if_neg hdd] at ea ⊢
          rw [ef, ea, if_neg (by decide)]
          obtain ⟨I4, q1, q2⟩ := ih (i + 1) I' (by omega) hA
          exact ⟨I4, q1, q2⟩
    obtain ⟨I2, q1, q2⟩ := key (W 1).toNat 0 I (by omega) AF.refl
    exact ⟨I2, q1, q2⟩
  · unfold CB s_X1_agree
    rw [l_ck L, bsome]
    by_cases g : 0 ≤ s ∧ s < W 3
    · obtain ⟨t, a, t1, -⟩ := hS.sg g.1 g.2
      have := z2 (fun e => h ⟨g, e⟩)
      unfold CB at this
      rw [y1 g a t1, xb_r, l_ck L, bsome, this, xb_l]
    · have := y2 g
      unfold CB at this
      rw [this, xb_l]
  · obtain ⟨t, a, t1, -⟩ := hS.sg h.1.1 h.1.2
    obtain ⟨v, b, v1, -⟩ := hS.sg h.2.1 h.2.2
    unfold CB
    rw [run a b h.1 h.2 t1 v1, if_neg h3, x1_must0 R, xb_l]
end CQ
