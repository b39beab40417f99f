/-! the component: stays -/
set_option maxRecDepth 100000
section CR2
variable {sh : Sh} {I J : Nat → Int → Int} {x : Nat} {p : Int} {W : Int → Int}
/-- mixed by a table's numbers -/
theorem x6_mixedT {d : Nat} (D : DL sh d) (hI : I (d + 1) 0 = p) (hp : Pp p) {q to : Nat} {n : Nat} {a b c e : Int} (ha : 0 ≤ a ∧ a < p) (hb : 0 ≤ b ∧ b < p) (hc : 0 ≤ c ∧ c < p) (he : 0 ≤ e ∧ e < p) {y : Int → Int} (F1 : FA sh q) (F3 : FA sh to) (h1 : q ≠ d + 4 ∧ q ≠ d + 6) (h3 : to ≠ d + 4 ∧ to ≠ d + 6) (hn : n ≤ 40) (hx : FM I q p n y) :
    ∃ I', s_X6_mixed d q a b c e to (sh, I, J) = some (sh, I', J) ∧ FM I' to p n (mixP n a b c e y) ∧ AF (fun i => aF (d + 4) i ∨ aF (d + 6) i ∨ aF to i) I I' := by
  have h := x6_mixed (J := J) D hI hp a b c e F1 F3 h1 h3 hn hx
  rw [emod_id p ha, emod_id p hb, emod_id p hc, emod_id p he] at h
  exact h
theorem x1_st188 (L : CL sh x) (hI : I (x + 5 + 1) 0 = p) (hp : Pp p) {n w : Int} {u : Fo} {c : Int → Int} (hn : 0 ≤ n ∧ n ≤ 40) (hu : u.1 ≤ 40) (h1 : FM I (x + 509) p n c) (h2 : FM I (x + 507) p u.1 u.2) :
    CG (s_X1_stays_l188 x (w % p) 0 (sh, I, J)) sh I J x (lkI p n (fun k => c k * w) u.1 u.2) := by
  have D := L.dl
  have F := L.fo
  unfold s_X1_stays_l188
  have hlp := whileO_for (f := fun s : Int × Me => s_X1_stays_l188_st x (w % p) s.1 s.2) (n + 1).toNat
    (fun j s => ∃ I', s = ((j : Int), ((sh, I', J) : Me)) ∧ I' (x + 509) 1 = n ∧ (∀ k : Int, 0 ≤ k → k < j → I' (x + 509 + 1) k = (c k * w) % p) ∧ (∀ k : Int, j ≤ k → k ≤ n → I' (x + 509 + 1) k = c k % p) ∧ AF (aF (x + 509)) I I')
    (fun r => ∃ I', r = Sum.inr (lkI p n (fun k => c k * w) u.1 u.2, ((sh, I', J) : Me)) ∧ AF (aF (x + 509)) I I') ?_ ?_ (0, (sh, I, J)) ?_
  · obtain ⟨r, hr, I', hr2, k2⟩ := hlp
    exact ⟨I', by rw [hr, hr2], k2.mono (fun a ha => by unfold xS; omega)⟩
  · rintro j s hj ⟨I3, rfl, a1, a2, a3, a4⟩
    have b1 := a3 j (by omega) (by omega)
    have hp3 : I3 (x + 5 + 1) 0 = p := by rw [a4 (x + 5 + 1) (by omega)]; exact hI
    obtain ⟨I4, e2, k1, k2, k3, k4⟩ := f_put (I := I3) (J := J) F (k := j) (v := (c j * w) % p) (by omega) (by omega)
    refine ⟨((j : Int) + 1, (sh, I4, J)), ?_, I4, by simp, by rw [k2]; exact a1, fun l y z => ?_, fun l y z => ?_, a4.trans k4⟩
    · unfold s_X1_stays_l188_st
      dsimp only
      simp (disch := omega) only [bsome, l_ot L, l_dk L, d_ck D, d_f D, d_one D, d_two D, d_left D, d_right D, d_cho D, dc_a D, dc_u D, d_ckf D, f_gI F, f_gR F, f_aI F, a1, w32_id (x := n), w32_id (x := (j : Int)), if_neg, b1, x7_mul D.ff hp3 hp, e2, ifT]
    · by_cases e : l = j
      · rw [e, k1]
      · rw [k3 _ (by omega)]
        exact a2 l y (by omega)
    · rw [k3 _ (by omega)]
      exact a3 l (by omega) z
  · rintro s ⟨I3, rfl, a1, a2, a3, a4⟩
    have g1 : FM I3 (x + 509) p n (fun k => c k * w) := ⟨a1, fun l y z => a2 l y (by omega)⟩
    have g2 := h2.keep a4 (by omega) (by omega)
    unfold s_X1_stays_l188_st s_X1_stays_b241
    dsimp only
    rw [l_ot L, bsome, f_gI F, bsome, a1, w32_id (x := n) (by omega) (by omega), w32_id (by omega) (by omega), if_pos (by omega), bsome, l_wk L, bsome, f_ck F, bsome, x8_same F L.fw hp (by omega) (by omega) g1 g2, bsome, bz2_m (lkI_iff (by omega)).1, bsome]
    exact ⟨_, rfl, I3, rfl, a4⟩
  · exact ⟨I, rfl, h1.1, fun l y z => absurd z (by omega), fun l y z => h1.2 l (by omega) z, AF.refl⟩
theorem x_stays (L : CL sh x) (R : Room sh) (hS : SR sh I (x + 16) W) (hI : I (x + 5 + 1) 0 = W 0) (hW : WI W) {s f u : Int} (hs : i32 s) (hf : i32 f) (hu : i32 u) :
    ((0 ≤ s ∧ s < W 3) → (0 ≤ f ∧ f < W 1) → (0 ≤ u ∧ u < W 2) → ∃ t : TT, SgW W s t.1 t.2 ∧ CG (s_X1_stays x s f u (sh, I, J)) sh I J x
      (styP (W 0) (Tr.rk 1 t.1 t.2) (tT W u 0) (tT W u 1) (tT W u 2) (tT W u 3) (Tr.val (fF W f) t.1 t.2) (Tr.val ((fF W f).1, mixP (fF W f).1 (tT W u 0) (tT W u 1) (tT W u 2) (tT W u 3) (fF W f).2) t.1 t.2))) ∧
    (¬((0 ≤ s ∧ s < W 3) ∧ (0 ≤ f ∧ f < W 1) ∧ (0 ≤ u ∧ u < W 2)) → CB (s_X1_stays x s f u (sh, I, J)) sh I J 3) := by
  have hc1 := hW.c1
  have hc2 := hW.c2
  have hc3 := hW.c3
  have hp := hW.pp
  have hb := hp.b
  have D := L.dl
  obtain ⟨y1, y2⟩ := x1_signAt (J := J) L R (n := W 3) hS.1.1.2.2.2 (by omega) hs
  obtain ⟨z1, z2⟩ := x1_formAt (J := J) L R (n := W 1) hS.1.1.2.1 (by omega) hf
  obtain ⟨w1, w2⟩ := x1_tableAt (J := J) L R (n := W 2) hS.1.1.2.2.1 (by omega) hu
  have z0 : w32 0 = 0 := rfl
  have z9 : ¬ w32 1 = 0 := by decide
  unfold s_X1_stays
  rw [l_ck L, bsome]
  refine ⟨fun h1 h2 h3 => ?_, fun h => ?_⟩
  · obtain ⟨t, a, t1, t2, t3, t4⟩ := hS.sg h1.1 h1.2
    refine ⟨t, t2, ?_⟩
    obtain ⟨g1, g2⟩ := hS.ff hW h2.1 h2.2
    obtain ⟨b0, b1, b2, b3, -⟩ := hW.t h3.1 h3.2
    have hQ := L.q (k := f) (by omega)
    have hT : ∀ I' : Nat → Int → Int, AF (xS x) I I' → ∀ i : Int, 0 ≤ i → i < 4 → aI (sh, I', J) 101 (x + 16 + 3 + u.toNat) i = some (tT W u i) := by
      intro I' hA i i0 i4
      rw [aI_m (L.st.ta (k := u.toNat) (by omega)) i0 i4, hA _ (by unfold xS; omega), hS.tb h3.1 h3.2 i0 i4]
    obtain ⟨F, hF⟩ : ∃ F, fF W f = F := ⟨_, rfl⟩
    obtain ⟨q, hq⟩ : ∃ q, x + 16 + 13 + 2 * f.toNat = q := ⟨_, rfl⟩
    rw [hF] at g1 g2 ⊢
    rw [hq] at g1 hQ
    obtain ⟨c0, hc0⟩ : ∃ v, tT W u 0 = v := ⟨_, rfl⟩
    obtain ⟨c1, hc1'⟩ : ∃ v, tT W u 1 = v := ⟨_, rfl⟩
    obtain ⟨c2, hc2'⟩ : ∃ v, tT W u 2 = v := ⟨_, rfl⟩
    obtain ⟨c3, hc3'⟩ : ∃ v, tT W u 3 = v := ⟨_, rfl⟩
    have T0 := fun I' hA => hT I' hA 0 (by omega) (by omega)
    have T1 := fun I' hA => hT I' hA 1 (by omega) (by omega)
    have T2 := fun I' hA => hT I' hA 2 (by omega) (by omega)
    have T3 := fun I' hA => hT I' hA 3 (by omega) (by omega)
    rw [hc0] at b0 T0 ⊢
    rw [hc1'] at b1 T1 ⊢
    rw [hc2'] at b2 T2 ⊢
    rw [hc3'] at b3 T3 ⊢
    obtain ⟨u1, hu1⟩ : ∃ o, Tr.val F t.1 t.2 = o := ⟨_, rfl⟩
    obtain ⟨u2, hu2⟩ : ∃ o, Tr.val (F.1, mixP F.1 c0 c1 c2 c3 F.2) t.1 t.2 = o := ⟨_, rfl⟩
    have d1 : ∀ z, u1 = some z → z.1 ≤ 40 := fun z h => Tr.val_d (F := F) (by omega) _ _ z (hu1.trans h)
    have d2 : ∀ z, u2 = some z → z.1 ≤ 40 := fun z h => Tr.val_d (F := (F.1, mixP F.1 c0 c1 c2 c3 F.2)) (show F.1 ≤ 40 by omega) _ _ z (hu2.trans h)
    have rb := Tr.rk_b 1 t.1 t.2 t2.2.2.2.1
    have lv := t2.2.2.2.2
    obtain ⟨rk, hrk⟩ : ∃ r, Tr.rk 1 t.1 t.2 = r := ⟨_, rfl⟩
    -- the form is mixed
    obtain ⟨I1, e1, e2, e3⟩ := x6_mixedT (J := J) D hI hp b0 b1 b2 b3 hQ L.fo (by omega) (by omega) (show F.1 ≤ 40 by omega) g1
    have A1 : AF (xS x) I I1 := e3.mono (fun i hi => by unfold xS; omega)
    have G := L.cv.fs (k := 0) (by omega)
    obtain ⟨I2, k1, k2, k3⟩ := x1_valueOf (J := J) L (I := I1) (by rw [xS.f A1]; exact hI) hp (F := (F.1, mixP F.1 c0 c1 c2 c3 F.2)) (show F.1 ≤ 40 by omega) L.fo (by omega) e2 (L.sa A1 t3) t2.2.2.2.1 lv t4
    rw [hu2] at k2
    have A2 := A1.trans (vS_x k3)
    obtain ⟨I3, l1, l2, l3⟩ := x8_beV (J := J) L.fw G (by omega) d2 k2
    have A3 : AF (xS x) I I3 := A2.trans (l3.mono (fun i hi => by unfold xS; omega))
    obtain ⟨I4, m1, m2, m3⟩ := x1_valueOf (J := J) L (I := I3) (by rw [xS.f A3]; exact hI) hp (F := F) (by omega) hQ (by omega) (xS.q A3 g1 (by omega) (by omega)) (L.sa A3 t3) t2.2.2.2.1 lv t4
    rw [hu1] at m2
    have A4 := A3.trans (vS_x m3)
    have l5 := l2.keep m3 (by unfold vS; omega) (by unfold vS; omega)
    obtain ⟨I5, n1, n2, n3⟩ := x8_beV (J := J) L.ft G (by omega) d1 m2
    have A5 : AF (xS x) I I5 := A4.trans (n3.mono (fun i hi => by unfold xS; omega))
    have l6 := l5.keep n3 (by omega) (by omega)
    have hI5 : I5 (x + 5 + 1) 0 = W 0 := by rw [xS.f A5]; exact hI
    have er := x_rnk (sh := sh) (I := I5) (J := J) (w := 1) (Or.inr rfl) t.1 t.2 200 a t4 (L.sa A5 t3) t2.2.2.2.1 (by omega)
    rw [hrk] at er rb
    rw [hu1, hu2, hrk]
    rw [y1 h1 a t1, xb_r, l_ck L, bsome, z1 h2, xb_r, l_ck L, bsome, w1 h3, xb_r, l_dk L, bsome, T0 I AF.refl, bsome, T1 I AF.refl, bsome, T2 I AF.refl, bsome, T3 I AF.refl, bsome, l_ot L, bsome, d_ck D, bsome, hq, e1, bsome, l_wk L, bsome, l_ot L, bsome, l_ck L, bsome, k1, bsome]
    dsimp only
    rw [f_ck L.fw, bsome, l1, bsome, l_th L, bsome, l_ck L, bsome, m1, bsome]
    dsimp only
    rw [f_ck L.ft, bsome, n1, bsome, er, bsome]
    dsimp only
    rw [w32_id (x := rk) (by omega) (by omega), show w32 (-1) = -1 from rfl]
    by_cases hr : rk = -1
    · rw [if_pos hr]
      refine ⟨I5, ?_, A5⟩
      have : styP (W 0) rk c0 c1 c2 c3 u1 u2 = 0 := by
        cases u1 <;> cases u2 <;> first | rfl | exact if_pos (by omega)
      rw [this]
    · rw [if_neg hr, l_th L, bsome, f_ck L.ft, bsome, x8_val1 L.ft d1 n2, bsome]
      dsimp only
      cases u1 with
      | none =>
        rw [if_pos rfl, if_pos z0]
        exact ⟨I5, by cases u2 <;> rfl, A5⟩
      | some v =>
        rw [if_neg (show ¬ (some v = none) by simp), if_neg z9, l_wk L, bsome, f_ck L.fw, bsome, x8_val1 L.fw d2 l6, bsome]
        dsimp only
        cases u2 with
        | none =>
          rw [if_pos rfl, if_pos z0]
          exact ⟨I5, rfl, A5⟩
        | some v2 =>
          have v40 := d1 v rfl
          have w40 := d2 v2 rfl
          obtain ⟨I6, o1, o2, o3⟩ := x6_mixedT (J := J) D hI5 hp b0 b1 b2 b3 L.ft L.fo (by omega) (by omega) v40 n2
          have A6 : AF (xS x) I5 I6 := o3.mono (fun i hi => by unfold xS; omega)
          have hI6 : I6 (x + 5 + 1) 0 = W 0 := by rw [xS.f A6]; exact hI5
          have l7 : FM I6 (x + 507) (W 0) v2.1 v2.2 := l6.keep o3 (by omega) (by omega)
          have B6 := A5.trans A6
          rw [if_neg (show ¬ (some v2 = none) by simp), if_neg z9, l_dk L, bsome, l_th L, bsome, T0 I5 A5, bsome, T1 I5 A5, bsome, T2 I5 A5, bsome, T3 I5 A5, bsome, l_ot L, bsome, d_ck D, bsome, o1, bsome, l_dk L, bsome, d_f D, bsome, T0 I6 B6, bsome, T1 I6 B6, bsome, T2 I6 B6, bsome, T3 I6 B6, bsome, l_ck L, bsome, x1_detOf L hI6 hp (by omega) (by omega) (by omega) (by omega), bsome]
          dsimp only
          rw [d_ckf D, bsome, x7_power D.ff hI6 hp _ (by omega) (by omega), bsome]
          dsimp only
          obtain ⟨I7, r1, r2⟩ := x1_st188 (J := J) (w := dtP c0 c1 c2 c3 ^ rk.toNat) L hI6 hp (n := v.1) (u := v2) (by omega) w40 o2 l7
          refine ⟨I7, ?_, B6.trans r2⟩
          rw [r1]
          have : styP (W 0) rk c0 c1 c2 c3 (some v) (some v2) = lkI (W 0) v2.1 v2.2 v.1 (fun k => mixP v.1 c0 c1 c2 c3 v.2 k * dtP c0 c1 c2 c3 ^ rk.toNat) := if_neg (by omega)
          rw [this, lkI_symm _ _ _ _ _ (by omega) (by omega)]
  · unfold CB
    by_cases g : 0 ≤ s ∧ s < W 3
    · obtain ⟨t, a, t1, -⟩ := hS.sg g.1 g.2
      rw [y1 g a t1, xb_r, l_ck L, bsome]
      by_cases g2 : 0 ≤ f ∧ f < W 1
      · have := w2 (fun e => h ⟨g, g2, e⟩)
        unfold CB at this
        rw [z1 g2, xb_r, l_ck L, bsome, this, xb_l]
      · have := z2 g2
        unfold CB at this
        rw [this, xb_l]
    · have := y2 g
      unfold CB at this
      rw [this, xb_l]
end CR2
