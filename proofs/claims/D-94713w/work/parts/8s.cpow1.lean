/-! the component: powers, lines and the last number -/
set_option maxRecDepth 100000
theorem lnP_0 {p t : Int} (ht : t < p) : ∀ n : Nat, lnP p n t 0 = 1 := by
  intro n
  unfold lnP
  rw [if_pos ht, if_pos ht]
  induction n with
  | zero => rfl
  | succ n ih =>
    have hs : itL n 1 (0 - t) (cst 1) (0 - 1) = 0 := (Sup.itL (Sup.cst (v := 1)) n) (0 - 1) (by omega)
    show 1 * itL n 1 (0 - t) (cst 1) 0 + (0 - t) * itL n 1 (0 - t) (cst 1) (0 - 1) = 1
    rw [hs, ih, Int.mul_zero]
    rfl
theorem lnP_p {p : Int} : ∀ (n : Nat) (k : Int), lnP p n p k = if k = n then 1 else 0 := by
  intro n
  unfold lnP
  rw [if_neg (Int.lt_irrefl p), if_neg (Int.lt_irrefl p)]
  induction n with
  | zero => exact fun k => rfl
  | succ n ih =>
    intro k
    show 0 * itL n 0 1 (cst 1) k + 1 * itL n 0 1 (cst 1) (k - 1) = _
    rw [ih (k - 1), Int.zero_mul, Int.zero_add, Int.one_mul]
    by_cases h : k = ((n + 1 : Nat) : Int)
    · rw [if_pos h, if_pos (by omega)]
    · rw [if_neg h, if_neg (by omega)]
/-- the lines hold the powers -/
def LN (I : Nat → Int → Int) (x : Nat) (p : Int) (n : Nat) : Prop := ∀ t : Nat, (t : Int) ≤ p → ∀ k : Int, 0 ≤ k → k ≤ n → I (x + 525 + t) k = lnP p n t k % p
section CPw
variable {sh : Sh} {I J : Nat → Int → Int} {x : Nat} {p : Int} {W : Int → Int}
theorem CL.ln (L : CL sh x) : sh.2.2.2 x 10 = some (x + 524) ∧ AR sh (x + 524) 105 20 ∧ ∀ k : Nat, k < 20 → sh.2.2.2 (x + 524) k = some (x + 525 + k) ∧ AR sh (x + 525 + k) 101 9 := L.2.2.2.2.2.2.2.2.2.1
theorem l_ln (L : CL sh x) : gR (sh, I, J) 0 x 10 = some (x + 524) := gR_m L.t L.ln.1
theorem ln_r (L : CL sh x) {k : Nat} (h : k < 20) : aR (sh, I, J) 105 (x + 524) k = some (x + 525 + k) := aR_m L.ln.2.1 (by omega) (by omega) (L.ln.2.2 k h).1
theorem ln_a (L : CL sh x) {k : Nat} (h : k < 20) {j : Int} (h0 : 0 ≤ j) (h1 : j < 9) : aI (sh, I, J) 101 (x + 525 + k) j = some (I (x + 525 + k) j) := aI_m (L.ln.2.2 k h).2 h0 h1
theorem CL.pt (L : CL sh x) : sh.2.2.2 x 11 = some (x + 545) ∧ AR sh (x + 545) 101 3 := L.2.2.2.2.2.2.2.2.2.2.1
theorem CL.nb (L : CL sh x) : sh.2.2.2 x 12 = some (x + 546) ∧ AR sh (x + 546) 101 3 := L.2.2.2.2.2.2.2.2.2.2.2.1
theorem l_pt (L : CL sh x) : gR (sh, I, J) 0 x 11 = some (x + 545) := gR_m L.t L.pt.1
theorem l_nb (L : CL sh x) : gR (sh, I, J) 0 x 12 = some (x + 546) := gR_m L.t L.nb.1
theorem pt_a (L : CL sh x) {j : Int} (h0 : 0 ≤ j) (h1 : j < 3) : aI (sh, I, J) 101 (x + 545) j = some (I (x + 545) j) := aI_m L.pt.2 h0 h1
theorem pt_u (L : CL sh x) {j v : Int} (h0 : 0 ≤ j) (h1 : j < 3) : uI (sh, I, J) (x + 545) j v = some (sh, up1 I (x + 545) (upz (I (x + 545)) j v), J) := uI_m L.pt.2 h0 h1
theorem nb_a (L : CL sh x) {j : Int} (h0 : 0 ≤ j) (h1 : j < 3) : aI (sh, I, J) 101 (x + 546) j = some (I (x + 546) j) := aI_m L.nb.2 h0 h1
theorem nb_u (L : CL sh x) {j v : Int} (h0 : 0 ≤ j) (h1 : j < 3) : uI (sh, I, J) (x + 546) j v = some (sh, up1 I (x + 546) (upz (I (x + 546)) j v), J) := uI_m L.nb.2 h0 h1
/-- one line -/
theorem x1_line (L : CL sh x) (hI : I (x + 5 + 1) 0 = p) (hp : Pp p) {t n : Nat} (ht : (t : Int) ≤ p) (hn : n ≤ 8) :
    ∃ I', s_X1_line x t n (sh, I, J) = some (sh, I', J) ∧ (∀ k : Int, 0 ≤ k → k ≤ n → I' (x + 525 + t) k = lnP p n t k % p) ∧ AF (fun a => aF (x + 509) a ∨ a = x + 525 + t) I I' := by
  have D := L.dl
  have hb := hp.b
  have G := L.fo
  have one : (1 : Int) % p = 1 := Int.emod_eq_of_lt (by omega) (by omega)
  have zero : (0 : Int) % p = 0 := Int.zero_emod p
  obtain ⟨I1, e1, r1, z1, f1⟩ := x8_nought (I := I) (J := J) G p (d := 0) (by omega)
  obtain ⟨I2, e2, k1, k2, k3, k4⟩ := f_put (I := I1) (J := J) G (k := 0) (v := 1) (by omega) (by omega)
  have r2 : FM I2 (x + 509) p ((0 : Nat) : Int) (cst 1) := by
    refine ⟨by rw [k2, r1.1]; rfl, fun k u v => ?_⟩
    have : k = 0 := by omega
    rw [this, k1, show cst 1 0 = 1 from rfl, one]
  unfold s_X1_line
  rw [l_ot L, bsome, f_ck G, bsome, e1, bsome, f_gR G, bsome, e2, bsome]
  unfold s_X1_line_l20
  obtain ⟨u, hu⟩ : ∃ u : Int, (if (t : Int) < p then 1 else 0) = u := ⟨_, rfl⟩
  obtain ⟨v, hv⟩ : ∃ v : Int, (if (t : Int) < p then 0 - (t : Int) else 1) = v := ⟨_, rfl⟩
  have hum : u % p = u := by
    rw [← hu]
    split
    · exact one
    · exact zero
  have f12 : AF (fun a => aF (x + 509) a ∨ a = x + 525 + t) I I2 := (f1.trans k4).mono (fun a ha => Or.inl ha)
  refine ex_g (fun I' => ((sh, I', J) : Me)) (whileO_for n (fun i s => ∃ I', s = ((i : Int), ((sh, I', J) : Me)) ∧ FM I' (x + 509) p i (itL i u v (cst 1)) ∧ AF (aF (x + 509)) I2 I') _ ?_ ?_ _ ?_)
  · rintro i s hi ⟨I3, rfl, a1, a2⟩
    have hI3 : I3 (x + 5 + 1) 0 = p := by rw [a2 _ (by omega), f12 _ (by omega)]; exact hI
    have sp : Sup i (itL i u v (cst 1)) := by
      have := Sup.itL (Sup.cst (v := 1)) (u := u) (v := v) i
      rwa [Int.zero_add] at this
    obtain ⟨I4, e4, r4, f4⟩ := x6_times (J := J) D hI3 hp u v G (show i < 40 by omega) a1 sp
    rw [hum] at e4
    refine ⟨((i : Int) + 1, (sh, I4, J)), ?_, I4, by simp, ?_, a2.trans f4⟩
    · unfold s_X1_line_l20_st
      dsimp only
      rw [w32_id (x := (n : Int)) (by omega) (by omega), w32_id (x := (i : Int)) (by omega) (by omega), if_neg (by omega), l_dk L, bsome, bsome, d_f D, bsome, gI_m D.ff, bsome, hI3, w32_id (x := p) (by omega) (by omega), w32_id (x := (t : Int)) (by omega) (by omega)]
      by_cases h : (t : Int) < p
      · rw [if_neg (by omega)]
        rw [if_pos h] at hu hv
        unfold s_X1_line_b50
        have ev := x7_of (J := J) D.ff hI3 hp (y := -(t : Int)) (by omega) (by omega)
        rw [show -(t : Int) = v by omega] at ev
        rw [l_dk L, bsome, d_f D, bsome, gI_m D.ff, bsome, hI3, w32_id (x := p) (by omega) (by omega), w32_id (x := (t : Int)) (by omega) (by omega), if_neg (by omega), bsome, d_f D, bsome, d_ckf D, bsome, w32_id (x := -(t : Int)) (by omega) (by omega), show -(t : Int) = v by omega, ev, bsome]
        dsimp only
        rw [d_ck D, bsome, hu, e4, bsome]
      · rw [if_pos (by omega)]
        rw [if_neg h] at hu hv
        unfold s_X1_line_b50
        rw [l_dk L, bsome, d_f D, bsome, gI_m D.ff, bsome, hI3, w32_id (x := p) (by omega) (by omega), w32_id (x := (t : Int)) (by omega) (by omega), if_pos (by omega), d_ck D, bsome, hu]
        rw [← hv, one] at e4
        rw [e4, bsome]
    · show FM I4 (x + 509) p ((i + 1 : Nat) : Int) (mulL u v (itL i u v (cst 1)))
      exact r4
  · rintro s ⟨I3, rfl, a1, a2⟩
    have cp : cpI (sh, I3, J) (x + 509 + 1) 0 (x + 525 + t) 0 ((n : Int) + 1) = some (sh, up1 I3 (x + 525 + t) (cpz (I3 (x + 509 + 1)) (I3 (x + 525 + t)) 0 0 ((n : Int) + 1)), J) := by
      have A1 := G.2.2
      have A2 := (L.ln.2.2 t (by omega)).2
      have l1 := A1.2.1
      have l2 := A2.2.1
      unfold cpI
      rw [if_pos]
      · rw [w32_id (x := (n : Int) + 1) (by omega) (by omega)]
        rfl
      · rw [w32_id (x := (n : Int) + 1) (by omega) (by omega)]
        refine ⟨A1.1, A2.1, by decide, by decide, by omega, ?_, ?_⟩
        · show w32 0 + ((n : Int) + 1) ≤ sh.2.2.1 (x + 509 + 1)
          rw [show w32 0 = 0 from rfl]
          omega
        · show w32 0 + ((n : Int) + 1) ≤ sh.2.2.1 (x + 525 + t)
          rw [show w32 0 = 0 from rfl]
          omega
    unfold s_X1_line_l20_st s_X1_line_b90
    dsimp only
    rw [w32_id (x := (n : Int)) (by omega) (by omega), if_pos (by omega), f_gR G, bsome, l_ln L, bsome, ln_r L (by omega), bsome, cp, bsome]
    refine ⟨_, rfl, _, rfl, fun k a b => ?_, f12.trans ((a2.mono (fun a ha => Or.inl ha)).trans (AF.one (Or.inr rfl)))⟩
    rw [up1_s]
    unfold cpz lnP
    rw [if_pos (by omega), hu, hv, show (0 : Int) + (k - 0) = k by omega]
    exact a1.2 k a b
  · exact ⟨I2, rfl, r2, AF.refl⟩
theorem ivS_1 {p : Int} (hp : Pp p) : ivS p (1 % p) = 1 := by
  rcases hp with h | h | h | h <;> rw [h] <;> decide
/-- the last number: what is left is a power of the last point -/
theorem x1_bn1 (L : CL sh x) (hI : I (x + 5 + 1) 0 = p) (hp : Pp p) {G : Nat → Nat → Nat → Int → Int → Int → Me → Option (Int × Me)} {q n t : Nat} {many at_ : Int} {c : Int → Int} (Q : FA sh q) (hn : n ≤ 8) (ht : (t : Int) ≤ p) (ha : 0 ≤ at_ ∧ at_ < 3) (hm : many = at_ + 1) (hpt : I (x + 545) at_ = t) (hl : LN I x p n) (hc : FM I q p n c) (hq : q + 1 ≠ x + 546) :
    s_X1_byNumbers G x q many at_ (sh, I, J) = some (lsB p n c t, (sh, up1 I (x + 546) (upz (I (x + 546)) at_ (lsV p n c t)), J)) := by
  have D := L.dl
  have hb := hp.b
  have one : (1 : Int) % p = 1 := Int.emod_eq_of_lt (by omega) (by omega)
  have z0 : w32 0 = 0 := rfl
  have nqq : q ≠ x + 546 := fun e => by
    have h1 := Q.1
    rw [e, L.nb.2.1] at h1
    omega
  have line : ∀ k : Int, 0 ≤ k → k ≤ n → aI (sh, I, J) 101 (x + 525 + t) k = some (lnP p n t k % p) := fun k u v => by rw [ln_a L (by omega) u (by omega), hl t ht k u v]
  -- where the power begins
  obtain ⟨i, hi, hi1, hi0, hiv⟩ : ∃ i : Nat, i ≤ n ∧ lnP p n t i = 1 ∧ (∀ k : Nat, k < i → lnP p n t k = 0) ∧ lsV p n c t = c i % p := by
    by_cases h : (t : Int) < p
    · refine ⟨0, by omega, lnP_0 h n, fun k hk => by omega, ?_⟩
      unfold lsV
      rw [if_pos h]
      rfl
    · have e : p = (t : Int) := by omega
      refine ⟨n, Nat.le_refl _, ?_, fun k hk => ?_, ?_⟩
      · rw [← e, lnP_p, if_pos rfl]
      · rw [← e, lnP_p, if_neg (by omega)]
      · unfold lsV
        rw [if_neg h]
  obtain ⟨v, hv⟩ : ∃ v, lsV p n c t = v := ⟨_, rfl⟩
  have hvb : 0 ≤ v ∧ v < p := by rw [← hv, hiv]; exact emod_b hp _
  have hvm : v % p = v := emod_id p hvb
  have skip : ∀ (m j : Nat), j + m = i → s_X1_byNumbers_l23 G x q at_ (x + 525 + t) j (sh, I, J) = s_X1_byNumbers_b37 G x q at_ (x + 525 + t) i (sh, I, J) := by
    intro m
    induction m with
    | zero =>
      intro j hj
      have : j = i := by omega
      subst this
      rw [e_X1_byNumbers_l23]
      unfold s_X1_byNumbers_l23_st
      rw [line j (by omega) (by omega), bsome, hi1, one, if_neg (by decide)]
      cases s_X1_byNumbers_b37 G x q at_ (x + 525 + t) j (sh, I, J) <;> rfl
    | succ m ih =>
      intro j hj
      rw [e_X1_byNumbers_l23]
      unfold s_X1_byNumbers_l23_st
      rw [line j (by omega) (by omega), bsome, hi0 j (by omega), Int.zero_emod, if_pos z0]
      exact ih (j + 1) (by omega)
  obtain ⟨I1, hI1⟩ : ∃ I1, up1 I (x + 546) (upz (I (x + 546)) at_ v) = I1 := ⟨_, rfl⟩
  have o : ∀ a : Nat, a ≠ x + 546 → I1 a = I a := fun a h => by rw [← hI1, up1_n _ _ h]
  have hc1 : FM I1 q p n c := hc.eq (o q nqq) (o (q + 1) hq)
  have hI1p : I1 (x + 5 + 1) 0 = p := by rw [o _ (by omega)]; exact hI
  have line1 : ∀ k : Int, 0 ≤ k → k ≤ n → aI (sh, I1, J) 101 (x + 525 + t) k = some (lnP p n t k % p) := fun k u v => by rw [ln_a L (by omega) u (by omega), o _ (by omega), hl t ht k u v]
  have check : ∀ w : Int, (w = 0 ∨ w = 1) → s_X1_byNumbers_l97 G x q (x + 525 + t) v w 0 (sh, I1, J) = some (if w = 0 then 0 else nzI p (fun k => c k - v * lnP p n t k) (n + 1), (sh, I1, J)) := by
    intro w hw
    unfold s_X1_byNumbers_l97
    have h := whileO_for (f := fun s : Int × Int × Me => s_X1_byNumbers_l97_st G x q (x + 525 + t) v s.1 s.2.1 s.2.2) (n + 1)
      (fun i s => s = ((if w = 0 then 0 else nzI p (fun k => c k - v * lnP p n t k) i), (i : Int), ((sh, I1, J) : Me))) (fun r => r = ((if w = 0 then 0 else nzI p (fun k => c k - v * lnP p n t k) (n + 1)), ((sh, I1, J) : Me))) ?_ ?_ (w, 0, (sh, I1, J)) ?_
    · obtain ⟨r, h1, h2⟩ := h
      rw [h1, h2]
    · rintro k s hk rfl
      refine ⟨_, ?_, rfl⟩
      have nb := (nzI_iff p (fun k => c k - v * lnP p n t k) k)
      have nb1 := (nzI_iff p (fun k => c k - v * lnP p n t k) (k + 1))
      unfold s_X1_byNumbers_l97_st
      dsimp only
      rw [f_gI Q, bsome, hc1.1, w32_id (x := (n : Int)) (by omega) (by omega), w32_id (x := (k : Int)) (by omega) (by omega), if_neg (by omega)]
      by_cases h0 : w = 0
      · rw [if_pos h0, if_pos h0, if_pos z0]
        simp
      · rw [if_neg h0, if_neg h0]
        rcases nb.1 with g | g
        · have g1 : nzI p (fun k => c k - v * lnP p n t k) (k + 1) = 0 := by
            rcases nb1.1 with e | e
            · exact e
            · have := nb.2.mpr (fun j u v => nb1.2.mp e j u (by omega))
              omega
          rw [g, g1, if_pos z0]
          simp
        · have e2 := hc1.2 k (by omega) (by omega)
          have e3 := x7_mul (J := J) D.ff hI1p hp v (lnP p n t k)
          rw [hvm] at e3
          have b1 := emod_b hp (c k)
          have b2 := emod_b hp (v * lnP p n t k)
          rw [g, if_neg (show ¬ w32 1 = 0 by decide), f_gR Q, bsome, f_aI Q (by omega) (by omega), bsome, e2, l_dk L, bsome, d_f D, bsome, line1 k (by omega) (by omega), bsome, d_ckf D, bsome, e3, bsome]
          dsimp only
          rw [w32_id (x := c k % p) (by omega) (by omega), w32_id (x := v * lnP p n t k % p) (by omega) (by omega)]
          by_cases hz : c k % p = v * lnP p n t k % p
          · have g1 : nzI p (fun k => c k - v * lnP p n t k) (k + 1) = 1 := nb1.2.mpr (fun j u w => by
              by_cases e : j = k
              · rw [e]
                exact sub_mod0.mpr hz
              · exact nb.2.mp g j u (by omega))
            rw [if_pos hz, g1]
            simp
          · have g1 : nzI p (fun k => c k - v * lnP p n t k) (k + 1) = 0 := by
              rcases nb1.1 with e | e
              · exact e
              · exact absurd (sub_mod0.mp (nb1.2.mp e k (by omega) (by omega))) hz
            rw [if_neg hz, g1]
            simp
    · rintro s rfl
      refine ⟨_, ?_, rfl⟩
      have bz : bz2 (if w = 0 then 0 else nzI p (fun k => c k - v * lnP p n t k) (n + 1)) = some () := bz2_m (by
        split
        · exact Or.inl rfl
        · exact (nzI_iff _ _ _).1)
      unfold s_X1_byNumbers_l97_st
      dsimp only
      rw [f_gI Q, bsome, hc1.1, w32_id (x := (n : Int)) (by omega) (by omega), w32_id (by omega) (by omega), if_pos (by omega), bz, bsome]
    · rcases hw with h | h
      · rw [h, if_pos rfl]
        rfl
      · rw [h, if_neg (by decide)]
        rfl
  have e9 := skip i 0 (by omega)
  rw [show ((0 : Nat) : Int) = 0 from rfl] at e9
  have eb := x7_inverse (J := J) D.ff hI hp 1
  rw [one] at eb
  have e1 : ivS p 1 = 1 := by
    have := ivS_1 hp
    rwa [one] at this
  rw [e1] at eb
  have em := x7_mul (J := J) D.ff hI hp (c i) 1
  rw [one, Int.mul_one, ← hiv, hv] at em
  unfold s_X1_byNumbers lsB
  rw [l_ln L, bsome, l_pt L, bsome, pt_a L ha.1 ha.2, bsome, hpt, ln_r L (by omega), bsome, w32_id (x := at_) (by omega) (by omega), w32_id (x := many - 1) (by omega) (by omega), if_pos (by omega), e9]
  unfold s_X1_byNumbers_b37
  rw [l_dk L, bsome, d_f D, bsome, f_gR Q, bsome, f_aI Q (by omega) (by omega), bsome, hc.2 i (by omega) (by omega), bsome, d_f D, bsome, line i (by omega) (by omega), bsome, d_ckf D, bsome, hi1, one, eb, bsome]
  dsimp only
  rw [d_ckf D, bsome]
  rw [hiv] at hv
  rw [hv, em, bsome]
  dsimp only
  rw [l_nb L, bsome, nb_u L ha.1 ha.2, bsome, hI1, hiv, hv, w32_id (x := v) (by omega) (by omega)]
  by_cases h0 : v = 0
  · rw [if_pos h0, if_pos h0, check 0 (Or.inl rfl), if_pos rfl, ← hI1]
  · rw [if_neg h0, if_neg h0, check 1 (Or.inr rfl), if_neg (by decide), ← hI1]
end CPw
