/-! the component: a form is added -/
set_option maxRecDepth 100000
theorem addF_o (W : Int → Int) {n : Nat} {c : Nat → Int} {k : Int} (h1 : k ≠ 1) (h5 : k ≠ 5) (h : k < 6 + 10 * W 1 ∨ 7 + 10 * W 1 + n ≤ k) : addF W n c k = W k := by
  unfold addF
  rw [upz_n _ _ h5, upz_n _ _ h1, wr_out (by omega), upz_n _ _ (by omega)]
theorem addF_1 (W : Int → Int) {n : Nat} {c : Nat → Int} : addF W n c 1 = W 1 + 1 ∧ addF W n c 5 = 0 := ⟨by unfold addF; rw [upz_n _ _ (by decide), upz_s], upz_s _ _ _⟩
theorem addF_f {W : Int → Int} (h : 0 ≤ W 1) {n : Nat} {c : Nat → Int} : fD (addF W n c) (W 1) = n - 1 ∧ ∀ k : Int, 0 ≤ k → k < n → fC (addF W n c) (W 1) k = c k.toNat := by
  unfold fD fC addF
  refine ⟨?_, fun k u v => ?_⟩
  · rw [upz_n _ _ (by omega), upz_n _ _ (by omega), wr_out (by omega), upz_s]
  · rw [upz_n _ _ (by omega), upz_n _ _ (by omega), wr_in (by omega) (by omega), show 7 + 10 * W 1 + k - (7 + 10 * W 1) = k by omega]
theorem WI.addF {W : Int → Int} (h : WI W) {n : Nat} {c : Nat → Int} (h16 : W 1 < 16) (hn : 1 ≤ n ∧ n ≤ 9) (hc : ∀ i, i < n → 0 ≤ c i ∧ c i < W 0) : WI (addF W n c) := by
  have c1 := h.c1
  have c4 := h.c4
  have o := fun k (h1 : k ≠ 1) (h5 : k ≠ 5) hh => addF_o W (n := n) (c := c) (k := k) h1 h5 hh
  have e0 := o 0 (by omega) (by omega) (by omega)
  have e2 := o 2 (by omega) (by omega) (by omega)
  have e3 := o 3 (by omega) (by omega) (by omega)
  have e4 := o 4 (by omega) (by omega) (by omega)
  obtain ⟨e1, e5⟩ := addF_1 W (n := n) (c := c)
  refine WI.mk (by rw [e0]; exact h.pp) (by rw [e1]; omega) (by rw [e2]; exact h.c2) (by rw [e3]; exact h.c3) (by rw [e4, e5]; omega) (fun f u v => ?_) (h.wT_ext e0 e2 (fun j u v => o j (by omega) (by omega) (by omega))) (h.wA_ext e0 (by omega) (by omega) (fun j u v => o j (by omega) (by omega) (by omega)))
  rw [e1] at v
  by_cases e : f = W 1
  · obtain ⟨g1, g2⟩ := addF_f (W := W) c1.1 (n := n) (c := c)
    rw [e]
    refine ⟨by rw [g1]; omega, fun k a b => ?_⟩
    rw [g1] at b
    rw [g2 k a (by omega), e0]
    exact hc _ (by omega)
  · exact (h.f u (by omega)).ext u e0 (fun j a b => o j (by omega) (by omega) (by omega))
section CFo
variable {sh sh' : Sh} {I I' J : Nat → Int → Int} {x S : Nat} {p : Int} {W W' : Int → Int}
theorem SR.addF (h : SR sh I S W) (hW : WI W) {n : Nat} {c : Nat → Int} (h16 : W 1 < 16) (hn : 1 ≤ n ∧ n ≤ 9) (hc : ∀ i, i < n → c i % W 0 = c i) (hF : FM I' (S + 13 + 2 * (W 1).toNat) (W 0) ((n : Int) - 1) (fun k => c k.toNat)) (hS : I' S = upz (upz (I S) 5 (W 1 + 1)) 8 (W 4)) (hI : ∀ q, S < q → q ≤ S + 244 → q ≠ S + 13 + 2 * (W 1).toNat → q ≠ S + 13 + 2 * (W 1).toNat + 1 → I' q = I q) (hA : ∀ (n : Nat) (t : Tr n) (q : Nat), SA sh I n t q → SA sh I' n t q) : SR sh I' S (addF W n c) := by
  have c1 := hW.c1
  have c4 := hW.c4
  obtain ⟨h1, h2, h3, h4, G, h5, h6⟩ := SR_iff.mp h
  have o := fun k (h1 : k ≠ 1) (h5 : k ≠ 5) hh => addF_o W (n := n) (c := c) (k := k) h1 h5 hh
  have e0 := o 0 (by omega) (by omega) (by omega)
  have e2 := o 2 (by omega) (by omega) (by omega)
  have e3 := o 3 (by omega) (by omega) (by omega)
  have e4 := o 4 (by omega) (by omega) (by omega)
  obtain ⟨e1, e5⟩ := addF_1 W (n := n) (c := c)
  obtain ⟨f1, f2⟩ := addF_f (W := W) c1.1 (n := n) (c := c)
  obtain ⟨W', hW'⟩ : ∃ W', Jvm.Pilot.CLetterFormsLaw_law_r4541_621673.addF W n c = W' := ⟨_, rfl⟩
  rw [hW'] at o e0 e1 e2 e3 e4 e5 f1 f2 ⊢
  have ed : ∀ f, 0 ≤ f → f < W 1 → fD W' f = fD W f := fun f u v => o _ (by omega) (by omega) (by omega)
  have ec : ∀ f k, 0 ≤ f → f < W 1 → 0 ≤ k → k < 9 → fC W' f k = fC W f k := fun f k u v w z => o _ (by omega) (by omega) (by omega)
  refine SR_iff.mpr ⟨?_, fun f hf => ?_, h3.ext hW e2 (fun j u v => o j (by omega) (by omega) (by omega)) (fun q u v => hI q (by omega) (by omega) (by omega) (by omega)), h4.ext hW e3 (fun j u v => o j (by omega) (by omega) (by omega)) rfl hA, ⟨fun k f => if f = (W 1).toNat then fC W' (W 1) else G k f, fun f hf j u v => ?_, fun k hk => ?_⟩⟩
  · unfold SRc at h1 ⊢
    rw [e0, e1, e2, e3, e4, e5, hS, upz_n _ _ (by decide), upz_n _ _ (by decide), upz_n _ _ (by decide), upz_s, upz_n _ _ (by decide), upz_n _ _ (by decide), upz_n _ _ (by decide), upz_n _ _ (by decide), upz_n _ _ (by decide), upz_n _ _ (by decide), upz_s, Int.add_zero]
    exact ⟨⟨h1.1.1, rfl, h1.1.2.2⟩, h1.2.1, rfl⟩
  · rw [e1] at hf
    by_cases e : (f : Int) = W 1
    · rw [e, show f = (W 1).toNat by omega, e0, f1]
      exact hF.congr (fun k u v => by rw [f2 k u (by omega)])
    · have d8 := (hW.f (f := (f : Int)) (by omega) (by omega)).1
      rw [e0, ed f (by omega) (by omega)]
      exact ((h2 f (by omega)).eq (hI _ (by omega) (by omega) (by omega) (by omega)) (hI _ (by omega) (by omega) (by omega) (by omega))).congr (fun k u v => by rw [ec f k (by omega) (by omega) u (by omega)])
  · rw [e1] at hf
    rw [e4, e0]
    dsimp only
    by_cases e : f = (W 1).toNat
    · rw [if_pos e, show (f : Int) = W 1 by omega]
    · have d8 := (hW.f (f := (f : Int)) (by omega) (by omega)).1
      rw [ed f (by omega) (by omega)] at v
      rw [if_neg e, ec f j (by omega) (by omega) u (by omega)]
      exact h5 f (by omega) j u v
  · rw [e4, e5] at hk
    have hb := (hW.a (a := (k : Int)) (by omega) (by omega)).1
    have ne : (aA W k 0).toNat ≠ (W 1).toNat := by omega
    obtain ⟨i, b1, b2, b3, b4, b5, b6, b7⟩ := h6 k (by omega)
    have ea : ∀ i : Int, 0 ≤ i → i < 5 → aA W' k i = aA W k i := fun i u v => o _ (by omega) (by omega) (by omega)
    have a0 := ea 0 (by omega) (by omega)
    have dk := ed (aA W k 0) hb.1 hb.2
    refine ⟨i, b1, b2, ?_, ?_, ?_, ?_, fun f hf => ?_⟩
    · rw [a0, hI _ (by omega) (by omega) (by omega) (by omega)]; exact b3
    · rw [a0, e0, dk]; dsimp only; rw [if_neg ne]; exact b4.eq (hI _ (by omega) (by omega) (by omega) (by omega)) (hI _ (by omega) (by omega) (by omega) (by omega))
    · rw [a0, e0, dk]; dsimp only; rw [if_neg ne]; exact b5.eq (hI _ (by omega) (by omega) (by omega) (by omega)) (hI _ (by omega) (by omega) (by omega) (by omega))
    · rw [a0, ea 1 (by omega) (by omega), ea 2 (by omega) (by omega), ea 3 (by omega) (by omega), ea 4 (by omega) (by omega), e0, dk]; dsimp only; rw [if_neg ne, if_neg ne]; exact b6
    · rw [a0] at hf
      dsimp only
      by_cases e : f = (W 1).toNat
      · rw [if_pos e, if_pos e]
      · rw [if_neg e, if_neg e]
        exact b7 f hf
theorem x1_took (L : CL sh x) : s_X1_took x (sh, I, J) = some (I (x + 1) 3, (sh, up1 I (x + 1) (upz (I (x + 1)) 3 0), J)) := by
  unfold s_X1_took
  rw [l_rd L, bsome, r_gI L, bsome, bsome, r_pI L, bsome]
theorem x_form (L : CL sh x) (R : Room sh) (hS : SR sh I (x + 16) W) (hI : I (x + 5 + 1) 0 = W 0) (hW : WI W) {s : Int} (hs : I (x + 1) 3 = s) (h0 : 0 ≤ s ∧ s ≤ 400) :
    ((1 ≤ s ∧ s ≤ 9) → W 1 < 16 → ∃ I', s_X1_form x (sh, I, J) = some (.inr (W 1, (sh, I', J))) ∧ SR sh I' (x + 16) (addF W s.toNat (fun i => anI (I (x + 1 + 1) i) 255 % W 0)) ∧ I' (x + 1) = upz (I (x + 1)) 3 0 ∧ ∀ a, (a < x + 16 ∨ x + 260 < a) → a ≠ x + 1 → I' a = I a) ∧
    (¬(1 ≤ s ∧ s ≤ 9) → CB (s_X1_form x (sh, I, J)) sh (up1 I (x + 1) (upz (I (x + 1)) 3 0)) J 0) ∧
    ((1 ≤ s ∧ s ≤ 9) → W 1 = 16 → CB (s_X1_form x (sh, I, J)) sh (up1 I (x + 1) (upz (I (x + 1)) 3 0)) J 2) := by
  have c1 := hW.c1
  have hp := hW.pp
  have hpb := hp.b
  have T := L.st
  have D := L.dl
  have z1 : ¬ w32 1 = 0 := by decide
  obtain ⟨I1, hI1⟩ : ∃ I1, up1 I (x + 1) (upz (I (x + 1)) 3 0) = I1 := ⟨_, rfl⟩
  have o1 : ∀ a, a ≠ x + 1 → I1 a = I a := fun a h => by rw [← hI1, up1_n _ _ h]
  have ei := x1_in (y := s) (lo := 1) (hi := 9) (μ := (sh, I1, J)) ⟨by omega, by omega⟩ ⟨by omega, by omega⟩ ⟨by omega, by omega⟩
  have h15 : I1 (x + 16) 5 = W 1 := by rw [o1 _ (by omega)]; exact hS.1.1.2.1
  unfold s_X1_form
  rw [l_ck L, bsome, x1_took L, bsome, hs, hI1]
  dsimp only
  rw [ei, bsome]
  dsimp only
  refine ⟨fun h h16 => ?_, fun h => ?_, fun h h16 => ?_⟩
  · rw [if_pos h, x1_must1, xb_r, l_st L, bsome, s_gI T, bsome, h15, show w32 16 = 16 from rfl, w32_id (x := W 1) (by omega) (by omega), if_neg (by omega)]
    unfold s_X1_form_b34
    have hQ := T.ff (k := (W 1).toNat) (by omega)
    have sf := s_form (I := I1) (J := J) T (k := (W 1).toNat) (by omega)
    rw [Int.toNat_of_nonneg c1.1] at sf
    obtain ⟨q, hq⟩ : ∃ q, x + 16 + 13 + 2 * (W 1).toNat = q := ⟨_, rfl⟩
    have hqb : x + 29 ≤ q ∧ q ≤ x + 59 := by omega
    rw [hq] at hQ sf
    obtain ⟨I2, e2, r2, -, f2⟩ := x8_nought (I := I1) (J := J) hQ (W 0) (d := s - 1) (by omega)
    rw [x1_mayBe1, xb_r, l_st L, bsome, s_fo T, bsome, bsome, s_gI T, bsome, h15, sf, bsome, f_ck hQ, bsome, e2, bsome]
    obtain ⟨n, hn⟩ : ∃ n : Nat, s = n := ⟨s.toNat, by omega⟩
    have tb : ∀ i : Nat, i < 9 → I2 (x + 1 + 1) i = I (x + 1 + 1) i := fun i _ => by rw [f2 _ (by omega), o1 _ (by omega)]
    have hI2 : I2 (x + 5 + 1) 0 = W 0 := by rw [f2 _ (by omega), o1 _ (by omega)]; exact hI
    have loop : ∀ (m i : Nat) (I3 : Nat → Int → Int), i + m = n → I3 q 1 = s - 1 → (∀ j : Nat, j < i → I3 (q + 1) j = anI (I (x + 1 + 1) j) 255 % W 0) → AF (aF q) I2 I3 →
        ∃ I4, s_X1_form_l62 x s q i (sh, I3, J) = s_X1_form_b103 x (sh, I4, J) ∧ I4 q 1 = s - 1 ∧ (∀ j : Nat, j < n → I4 (q + 1) j = anI (I (x + 1 + 1) j) 255 % W 0) ∧ AF (aF q) I2 I4 := by
      intro m
      induction m with
      | zero =>
        intro i I3 hi a1 a2 a3
        refine ⟨I3, ?_, a1, fun j hj => a2 j (by omega), a3⟩
        rw [e_X1_form_l62]
        unfold s_X1_form_l62_st
        rw [w32_id (x := s) (by omega) (by omega), w32_id (x := (i : Int)) (by omega) (by omega), if_pos (by omega)]
        cases s_X1_form_b103 x (sh, I3, J) <;> rfl
      | succ m ih =>
        intro i I3 hi a1 a2 a3
        have hI3 : I3 (x + 5 + 1) 0 = W 0 := by rw [a3 _ (by omega)]; exact hI2
        have av := anI_b (I (x + 1 + 1) i) (show (0 : Int) ≤ 255 by decide) (show (255 : Int) < 2147483648 by decide)
        have t3 : I3 (x + 1 + 1) i = I (x + 1 + 1) i := by rw [a3 _ (by omega)]; exact tb i (by omega)
        obtain ⟨I4, e4, k1, k2, k3, k4⟩ := f_put (I := I3) (J := J) hQ (k := (i : Int)) (v := anI (I (x + 1 + 1) i) 255 % W 0) (by omega) (by omega)
        obtain ⟨I5, z1, z2, z3, z4⟩ := ih (i + 1) I4 (by omega) (by rw [k2]; exact a1) (fun j hj => by
          by_cases e : j = i
          · rw [e, k1]
          · rw [k3 _ (by omega)]
            exact a2 j (by omega)) (a3.trans k4)
        refine ⟨I5, ?_, z2, z3, z4⟩
        rw [← z1, e_X1_form_l62]
        unfold s_X1_form_l62_st
        rw [w32_id (x := s) (by omega) (by omega), w32_id (x := (i : Int)) (by omega) (by omega), if_neg (by omega), f_gR hQ, bsome, l_dk L, bsome, d_f D, bsome, l_rd L, bsome, r_tp L, bsome, r_ta L (by omega) (by omega), bsome, t3, d_ckf D, bsome, x7_ofI D.ff hI3 hp ⟨by omega, by omega⟩, bsome]
        dsimp only
        rw [e4, bsome]
        rfl
    obtain ⟨I3, e3, r3, v3, f3⟩ := loop n 0 I2 (by omega) r2.1 (fun j hj => by omega) AF.refl
    rw [show ((0 : Nat) : Int) = 0 from rfl] at e3
    rw [e3]
    unfold s_X1_form_b103
    have f23 : AF (aF q) I1 I3 := f2.trans f3
    have s3 : I3 (x + 16) = I (x + 16) := by rw [f23 _ (by omega), o1 _ (by omega)]
    have h9 : I (x + 16) 9 = W 4 := hS.1.2.1
    have h5 : I (x + 16) 5 = W 1 := hS.1.1.2.1
    rw [l_st L, bsome, s_gI T, bsome, s3, h5, s_pI T, bsome, s3, l_st L, bsome, bsome, s_gI T, bsome, up1_s, upz_n _ _ (by decide), h9, s_pI T, bsome, up1_s, up1_up1, l_st L, bsome, s_gI T, bsome, up1_s, upz_n _ _ (by decide), upz_s]
    obtain ⟨I4, hI4⟩ : ∃ I4, up1 I3 (x + 16) (upz (upz (I (x + 16)) 5 (W 1 + 1)) 8 (W 4)) = I4 := ⟨_, rfl⟩
    rw [hI4]
    have o4 : ∀ a, a ≠ x + 16 → a ≠ q → a ≠ q + 1 → a ≠ x + 1 → I4 a = I a := fun a u v w z => by rw [← hI4, up1_n _ _ u, f23 _ (by omega), o1 _ z]
    have kind : ∀ a, sh.2.1 a = 10 ∨ sh.2.1 a = 12 → I4 a = I a := fun a ha => o4 a (fun e => by rw [e, T.1] at ha; omega) (fun e => by rw [e, hQ.1] at ha; omega) (fun e => by rw [e, hQ.2.2.1] at ha; omega) (fun e => by rw [e, L.rl.1] at ha; omega)
    refine ⟨I4, by rw [show W 1 + 1 - 1 = W 1 by omega], ?_, by rw [← hI4, up1_n _ _ (by omega), f23 _ (by omega), ← hI1, up1_s], fun a u v => o4 a (by omega) (by omega) (by omega) v⟩
    refine hS.addF hW h16 (by omega) (fun i hi => emod_emod_ _ _) ?_ (by rw [← hI4, up1_s]) (fun a u v w z => o4 a (by omega) (by omega) (by omega) (by omega)) (fun n t a g => SA.keep kind n t a g)
    rw [hq]
    refine ⟨by rw [← hI4, up1_n _ _ (by omega), r3]; omega, fun k u v => ?_⟩
    rw [← hI4, up1_n _ _ (by omega)]
    have := v3 k.toNat (by omega)
    rw [Int.toNat_of_nonneg u] at this
    rw [this]
    dsimp only
    rw [Int.toNat_of_nonneg u, emod_emod_]
  · unfold CB
    rw [if_neg h, x1_must0 R, xb_l]
  · rw [if_pos h, x1_must1, xb_r, l_st L, bsome, s_gI T, bsome, h15, show w32 16 = 16 from rfl, w32_id (x := W 1) (by omega) (by omega), if_pos (by omega)]
    unfold CB s_X1_form_b34
    rw [x1_mayBe0 R, xb_l]
end CFo
