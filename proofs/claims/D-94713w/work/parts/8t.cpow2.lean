/-! the component: powers, the search of numbers -/
set_option maxRecDepth 100000
/-- numbers and shelves from one on -/
def nS (x k a : Nat) : Prop := a = x + 546 ∨ (x + 550 + 2 * k ≤ a ∧ a ≤ x + 677)
/-- the search's memory -/
def QNm (sh : Sh) (x k : Nat) (I1 J : Nat → Int → Int) (A : (Int → Int) → Prop) (μ : Me) : Prop := ∃ I' : Nat → Int → Int, μ = (sh, I', J) ∧ AF (nS x k) I1 I' ∧ (∀ j : Int, j < k → I' (x + 546) j = I1 (x + 546) j) ∧ A (I' (x + 546))
section CPs
variable {sh : Sh} {I J : Nat → Int → Int} {x : Nat} {p : Int} {W : Int → Int}
/-- a number times the power is taken off -/
theorem x1_less (L : CL sh x) (hI : I (x + 5 + 1) 0 = p) (hp : Pp p) {G : Nat → Nat → Nat → Int → Int → Int → Me → Option (Int × Me)} {q q2 n t : Nat} {many at_ v : Int} {c : Int → Int} (Q : FA sh q) (Q2 : FA sh q2) (hne : q ≠ q2) (hn : n ≤ 8) (ht : (t : Int) ≤ p) (hv : 0 ≤ v ∧ v < p) (hl : LN I x p n) (n2 : q2 ≠ x + 525 + t ∧ q2 + 1 ≠ x + 525 + t) (hd : I q 1 = n) (hc : FM I q2 p n c) :
    ∃ I', s_X1_byNumbers_l200 G x q many at_ (x + 525 + t) q2 v 0 (sh, I, J) = s_X1_byNumbers_b253 G x q many at_ (x + 525 + t) q2 v (sh, I', J) ∧ FM I' q2 p n (lsP p n c t v) ∧ AF (aF q2) I I' := by
  have D := L.dl
  have hb := hp.b
  have ap := Q.ap Q2 hne
  have nn := D.nf Q2
  unfold AP at ap
  have hvm : v % p = v := emod_id p hv
  have key : ∀ (m j : Nat) (I' : Nat → Int → Int), j + m = n + 1 → I' q2 1 = n → (∀ k : Int, 0 ≤ k → k < j → k ≤ n → I' (q2 + 1) k = lsP p n c t v k % p) → (∀ k : Int, j ≤ k → k ≤ n → I' (q2 + 1) k = c k % p) → AF (aF q2) I I' →
      ∃ I2, s_X1_byNumbers_l200 G x q many at_ (x + 525 + t) q2 v j (sh, I', J) = s_X1_byNumbers_b253 G x q many at_ (x + 525 + t) q2 v (sh, I2, J) ∧ FM I2 q2 p n (lsP p n c t v) ∧ AF (aF q2) I I2 := by
    intro m
    induction m with
    | zero =>
      intro j I' hj a1 a2 a3 a4
      have hd1 : I' q 1 = n := by rw [a4 q (by omega)]; exact hd
      refine ⟨I', ?_, ⟨a1, fun k u w => a2 k u (by omega) w⟩, a4⟩
      rw [e_X1_byNumbers_l200]
      unfold s_X1_byNumbers_l200_st
      rw [f_gI Q, bsome, hd1, w32_id (by omega) (by omega), w32_id (by omega) (by omega), if_pos (by omega)]
      cases s_X1_byNumbers_b253 G x q many at_ (x + 525 + t) q2 v (sh, I', J) <;> rfl
    | succ m ih =>
      intro j I' hj a1 a2 a3 a4
      have hd1 : I' q 1 = n := by rw [a4 q (by omega)]; exact hd
      have b1 := a3 j (by omega) (by omega)
      have b2 := hl t ht j (by omega) (by omega)
      have hp3 : I' (x + 5 + 1) 0 = p := by rw [a4 (x + 5 + 1) (by omega)]; exact hI
      have e3 := x7_dif (J := J) D.ff hp3 hp (c j) v (lnP p n t j)
      rw [hvm] at e3
      obtain ⟨I4, e2, k1, k2, k3, k4⟩ := f_put (I := I') (J := J) Q2 (k := j) (v := (c j - v * lnP p n t j) % p) (by omega) (by omega)
      obtain ⟨I2, z1, z2, z3⟩ := ih (j + 1) I4 (by omega) (by rw [k2]; exact a1) (fun k u w z => by
        by_cases e9 : k = j
        · rw [e9, k1]
          rfl
        · rw [k3 _ e9]
          exact a2 k u (by omega) z) (fun k u w => by
        rw [k3 _ (by omega)]
        exact a3 k (by omega) w) (a4.trans k4)
      refine ⟨I2, ?_, z2, z3⟩
      rw [← z1, e_X1_byNumbers_l200]
      unfold s_X1_byNumbers_l200_st
      rw [f_gI Q, bsome, hd1, w32_id (x := (n : Int)) (by omega) (by omega), w32_id (x := (j : Int)) (by omega) (by omega), if_neg (by omega), f_gR Q2, bsome, l_dk L, bsome, d_f D, bsome, bsome, f_aI Q2 (by omega) (by omega), bsome, ln_a L (by omega) (by omega) (by omega), bsome, d_ckf D, bsome, b1, a4 (x + 525 + t) (by omega), b2, e3, bsome]
      dsimp only
      rw [e2, bsome]
      rfl
  exact key (n + 1) 0 I (by omega) hc.1 (fun k u v => by omega) (fun k u v => hc.2 k (by omega) v) AF.refl
/-- one number is tried -/
theorem x1_try (L : CL sh x) (hI : I (x + 5 + 1) 0 = p) (hp : Pp p) {G : Nat → Nat → Nat → Int → Int → Int → Me → Option (Int × Me)} {q n t k v : Nat} {many : Int} {c : Int → Int} (hk : k < 3) (Q : FA sh q) (hq : q + 1 < x + 550 + 2 * k) (hq2 : q + 1 < x + 545 ∨ x + 547 ≤ q) (hn : n ≤ 8) (ht : (t : Int) ≤ p) (hv : (v : Int) < p) (hl : LN I x p n) (hc : FM I q p n c) :
    ∃ I', s_X1_byNumbers_l168_st G x q many k (x + 525 + t) (x + 550 + 2 * k) v (sh, I, J) = ((G 2 x (x + 550 + 2 * k) many ((k : Int) + 1) 0 (sh, I', J)).bind fun q18 => if w32 q18.1 = 0 then some (.inl ((v : Int) + 1, q18.2)) else some (.inr (1, q18.2))) ∧
      FM I' (x + 550 + 2 * k) p n (lsP p n c t v) ∧ I' (x + 546) = upz (I (x + 546)) k v ∧ AF (fun a => a = x + 546 ∨ aF (x + 550 + 2 * k) a) I I' := by
  have D := L.dl
  have hb := hp.b
  have Q2 := L.cv.fs (k := k) (by omega)
  obtain ⟨q2, hq2e⟩ : ∃ q2, x + 550 + 2 * k = q2 := ⟨_, rfl⟩
  rw [hq2e] at Q2 hq ⊢
  obtain ⟨I1, hI1⟩ : ∃ I1, up1 I (x + 546) (upz (I (x + 546)) k v) = I1 := ⟨_, rfl⟩
  have o : ∀ a : Nat, a ≠ x + 546 → I1 a = I a := fun a h => by rw [← hI1, up1_n _ _ h]
  have hc1 : FM I1 q p n c := hc.eq (o q (by omega)) (o (q + 1) (by omega))
  have hI1p : I1 (x + 5 + 1) 0 = p := by rw [o _ (by omega)]; exact hI
  obtain ⟨I2, e2, r2, f2⟩ := x8_be (I := I1) (J := J) Q2 Q (by omega) (by omega) hc1
  have hd2 : I2 q 1 = n := by rw [f2 q (by omega)]; exact hc1.1
  have hl2 : LN I2 x p n := fun t h k u w => by rw [f2 _ (by omega), o _ (by omega)]; exact hl t h k u w
  obtain ⟨I3, e3, r3, f3⟩ := x1_less (J := J) (G := G) (many := many) (at_ := k) (v := v) L (by rw [f2 _ (by omega)]; exact hI1p) hp Q Q2 (by omega) hn ht ⟨by omega, hv⟩ hl2 (by omega) hd2 r2
  have fr : AF (fun a => a = x + 546 ∨ aF q2 a) I I3 := by
    refine AF.trans (I' := I1) ?_ ((f2.trans f3).mono (fun a h => Or.inr h))
    rw [← hI1]
    exact AF.one (Or.inl rfl)
  refine ⟨I3, ?_, r3, ?_, fr⟩
  · unfold s_X1_byNumbers_l168_st
    rw [l_dk L, bsome, d_f D, bsome, gI_m D.ff, bsome, hI, w32_id (x := p) (by omega) (by omega), w32_id (x := (v : Int)) (by omega) (by omega), if_neg (by omega), l_nb L, bsome, nb_u L (by omega) (by omega), bsome, hI1, f_ck Q2, bsome, e2, bsome, e3]
    unfold s_X1_byNumbers_b253
    rw [l_ck L, bsome]
  · rw [f3 _ (by omega), f2 _ (by omega), ← hI1, up1_s]
theorem x1_168_end (L : CL sh x) (hI : I (x + 5 + 1) 0 = p) (hp : Pp p) {G : Nat → Nat → Nat → Int → Int → Int → Me → Option (Int × Me)} {q a4 a5 : Nat} {many k : Int} : s_X1_byNumbers_l168_st G x q many k a4 a5 ((p.toNat : Nat) : Int) (sh, I, J) = some (.inr (0, (sh, I, J))) := by
  have D := L.dl
  have hb := hp.b
  unfold s_X1_byNumbers_l168_st
  rw [l_dk L, bsome, d_f D, bsome, gI_m D.ff, bsome, hI, w32_id (x := p) (by omega) (by omega), w32_id (by omega) (by omega), if_pos (by omega)]
/-- into the loop of numbers -/
theorem x1_nums (L : CL sh x) (hp : Pp p) {G : Nat → Nat → Nat → Int → Int → Int → Me → Option (Int × Me)} {q t k : Nat} {many : Int} (hk : k < 3) (ht : (t : Int) ≤ p) (hm : (k : Int) + 1 < many ∧ many < 10) (hpt : I (x + 545) k = t) : s_X1_byNumbers G x q many k (sh, I, J) = s_X1_byNumbers_l168 G x q many k (x + 525 + t) (x + 550 + 2 * k) 1 (sh, I, J) := by
  have hb := hp.b
  unfold s_X1_byNumbers
  rw [l_ln L, bsome, l_pt L, bsome, pt_a L (by omega) (by omega), bsome, hpt, ln_r L (by omega), bsome, w32_id (x := (k : Int)) (by omega) (by omega), w32_id (x := many - 1) (by omega) (by omega), if_neg (by omega), l_sv L, bsome, c_shelf L.cv (by omega), bsome]
theorem ad_2 (n : Nat) (a0 a1 : Nat) (z1 z2 z3 : Int) (μ : Me) : s_ad (n + 1) 2 a0 a1 z1 z2 z3 μ = s_X1_byNumbers (s_ad n) a0 a1 z1 z2 μ := rfl
theorem ad_1 (n : Nat) (a0 a1 : Nat) (z1 z2 z3 : Int) (μ : Me) : s_ad (n + 1) 1 a0 a1 z1 z2 z3 μ = s_X1_byPoints (s_ad n) a0 a1 z1 z2 μ := rfl
theorem ad_0 (n : Nat) (a0 a1 : Nat) (z1 z2 z3 : Int) (μ : Me) : s_ad (n + 1) 0 a0 a1 z1 z2 z3 μ = s_X1_adds_2 (s_ad n) a0 a1 z1 z2 z3 μ := rfl
theorem LN.keep {S : Nat → Prop} {I I' : Nat → Int → Int} {x : Nat} {p : Int} {n : Nat} (h : LN I x p n) (hp : Pp p) (hF : AF S I I') (h1 : ∀ a, x + 525 ≤ a → a ≤ x + 544 → ¬ S a) : LN I' x p n := by
  have hb := hp.b
  intro t ht k u v
  rw [hF _ (h1 _ (by omega) (by omega))]
  exact h t ht k u v
theorem QNm.mono {k : Nat} {A B : (Int → Int) → Prop} {μ : Me} (h : QNm sh x k I J A μ) (hAB : ∀ s, A s → B s) : QNm sh x k I J B μ := by
  obtain ⟨I', h1, h2, h3, h4⟩ := h
  exact ⟨I', h1, h2, h3, hAB _ h4⟩
/-- two numbers -/
theorem x1_bn2 (L : CL sh x) (hI : I (x + 5 + 1) 0 = p) (hp : Pp p) {q n t u k f : Nat} {many : Int} {c : Int → Int} (hk : k < 2) (hm : many = (k : Int) + 2) (Q : FA sh q) (hq : q + 1 < x + 550 + 2 * k) (hq2 : q + 1 < x + 545 ∨ x + 547 ≤ q) (hn : n ≤ 8) (ht : (t : Int) ≤ p) (hu : (u : Int) ≤ p) (hl : LN I x p n) (hc : FM I q p n c) (h1 : I (x + 545) k = t) (h2 : I (x + 545) ((k : Int) + 1) = u) :
    (bn2 p n c t u = none → ∃ μ', s_ad (f + 2) 2 x q many k 0 (sh, I, J) = some (0, μ') ∧ QNm sh x k I J (fun _ => True) μ') ∧
    ∀ r, bn2 p n c t u = some r → ∃ μ', s_ad (f + 2) 2 x q many k 0 (sh, I, J) = some (1, μ') ∧ QNm sh x k I J (fun s => s k = r.1 ∧ s ((k : Int) + 1) = r.2) μ' := by
  have hb := hp.b
  have Q2 := L.cv.fs (k := k) (by omega)
  rw [ad_2, x1_nums L hp (by omega) ht (by omega) h1]
  unfold s_X1_byNumbers_l168
  have h := fnd_loop (f := fun s : Int × Me => s_X1_byNumbers_l168_st (s_ad (f + 1)) x q many k (x + 525 + t) (x + 550 + 2 * k) s.1 s.2) (fun v => (bn1 p n (lsP p n c t v) u).map fun b => ((v : Int), b)) p.toNat (QNm sh x k I J (fun _ => True))
    (fun r y => y.1 = 1 ∧ QNm sh x k I J (fun s => s k = r.1 ∧ s ((k : Int) + 1) = r.2) y.2) (fun y => y.1 = 0 ∧ QNm sh x k I J (fun _ => True) y.2) ?_ ?_ (p - 1).toNat 1 (sh, I, J) (by omega) ⟨I, rfl, AF.refl, fun _ _ => rfl, trivial⟩
  · refine ⟨fun h1 => ?_, fun r h1 => ?_⟩
    · obtain ⟨⟨x1, x2⟩, e, rfl, q⟩ := h.1 h1
      exact ⟨x2, e, q⟩
    · obtain ⟨⟨x1, x2⟩, e, rfl, q⟩ := h.2 r h1
      exact ⟨x2, e, q⟩
  · rintro v μ hv ⟨I1, rfl, q1, q2, -⟩
    have hl1 := hl.keep hp q1 (fun a _ _ => by unfold nS; omega)
    have hc1 := hc.keep q1 (by unfold nS; omega) (by unfold nS; omega)
    have hI1 : I1 (x + 5 + 1) 0 = p := by rw [q1 _ (by unfold nS; omega)]; exact hI
    obtain ⟨I2, e2, r2, nb2, f2⟩ := x1_try (J := J) (G := s_ad (f + 1)) (many := many) L hI1 hp (k := k) (v := v) (by omega) Q hq hq2 hn ht (by omega) hl1 hc1
    have f2' : AF (nS x k) I1 I2 := f2.mono (fun a ha => by unfold nS; omega)
    have f12 := q1.trans f2'
    have hl2 := hl.keep hp f12 (fun a _ _ => by unfold nS; omega)
    have hI2 : I2 (x + 5 + 1) 0 = p := by rw [f12 _ (by unfold nS; omega)]; exact hI
    have hp2 : I2 (x + 545) ((k : Int) + 1) = u := by rw [f12 _ (by unfold nS; omega)]; exact h2
    have e3 := x1_bn1 (J := J) (G := s_ad f) (q := x + 550 + 2 * k) (t := u) (many := many) (at_ := (k : Int) + 1) L hI2 hp Q2 hn hu (by omega) (by omega) hp2 hl2 r2 (by omega)
    obtain ⟨I3, hI3⟩ : ∃ I3, up1 I2 (x + 546) (upz (I2 (x + 546)) ((k : Int) + 1) (lsV p n (lsP p n c t v) u)) = I3 := ⟨_, rfl⟩
    rw [hI3] at e3
    have f3 : AF (nS x k) I2 I3 := by rw [← hI3]; exact AF.one (Or.inl rfl)
    have n3 : I3 (x + 546) = upz (upz (I1 (x + 546)) k v) ((k : Int) + 1) (lsV p n (lsP p n c t v) u) := by rw [← hI3, up1_s, nb2]
    have run : s_X1_byNumbers_l168_st (s_ad (f + 1)) x q many k (x + 525 + t) (x + 550 + 2 * k) v (sh, I1, J) = (if w32 (lsB p n (lsP p n c t v) u) = 0 then some (.inl ((v : Int) + 1, (sh, I3, J))) else some (.inr (1, (sh, I3, J)))) := by
      rw [e2, ad_2, e3]
      rfl
    have q3 : ∀ j : Int, j < k → I3 (x + 546) j = I (x + 546) j := fun j hj => by
      rw [n3, upz_n _ _ (by omega), upz_n _ _ (by omega), q2 j hj]
    refine ⟨fun hr => ?_, fun r hr => ?_⟩
    · have hz : lsB p n (lsP p n c t v) u = 0 := by
        rcases lsB_b p n (lsP p n c t v) u with g | g
        · exact g
        · have hr : (bn1 p n (lsP p n c t v) u).map (fun b => ((v : Int), b)) = none := hr
          rw [bn1_s g] at hr
          cases hr
      rw [hz, if_pos (show w32 0 = 0 from rfl)] at run
      exact ⟨_, ⟨I3, rfl, f12.trans f3, q3, trivial⟩, run⟩
    · have hr : (bn1 p n (lsP p n c t v) u).map (fun b => ((v : Int), b)) = some r := hr
      have hz : lsB p n (lsP p n c t v) u = 1 := by
        rcases lsB_b p n (lsP p n c t v) u with g | g
        · rw [bn1_n g] at hr
          cases hr
        · exact g
      rw [bn1_s hz] at hr
      have hr : ((v : Int), lsV p n (lsP p n c t v) u) = r := Option.some.inj hr
      rw [hz, if_neg (show ¬ w32 1 = 0 by decide)] at run
      refine ⟨_, run, rfl, I3, rfl, f12.trans f3, q3, ?_, ?_⟩
      · rw [n3, upz_n _ _ (by omega), upz_s, ← hr]
      · rw [n3, upz_s, ← hr]
  · rintro μ ⟨I1, rfl, q1, q2, -⟩
    have hI1 : I1 (x + 5 + 1) 0 = p := by rw [q1 _ (by unfold nS; omega)]; exact hI
    exact ⟨_, x1_168_end L hI1 hp, rfl, I1, rfl, q1, q2, trivial⟩
/-- three numbers -/
theorem x1_bn3 (L : CL sh x) (hI : I (x + 5 + 1) 0 = p) (hp : Pp p) {q n t u w f : Nat} {c : Int → Int} (Q : FA sh q) (hq : q + 1 < x + 545) (hn : n ≤ 8) (ht : (t : Int) ≤ p) (hu : (u : Int) ≤ p) (hw : (w : Int) ≤ p) (hl : LN I x p n) (hc : FM I q p n c) (h1 : I (x + 545) 0 = t) (h2 : I (x + 545) 1 = u) (h3 : I (x + 545) 2 = w) :
    (bn3 p n c t u w = none → ∃ μ', s_ad (f + 3) 2 x q 3 0 0 (sh, I, J) = some (0, μ') ∧ QNm sh x 0 I J (fun _ => True) μ') ∧
    ∀ r, bn3 p n c t u w = some r → ∃ μ', s_ad (f + 3) 2 x q 3 0 0 (sh, I, J) = some (1, μ') ∧ QNm sh x 0 I J (fun s => s 0 = r.1 ∧ s 1 = r.2.1 ∧ s 2 = r.2.2) μ' := by
  have hb := hp.b
  have Q2 := L.cv.fs (k := 0) (by omega)
  have en := x1_nums (J := J) (G := s_ad (f + 2)) (q := q) (t := t) (k := 0) (many := 3) L hp (by omega) ht (by omega) h1
  rw [show ((0 : Nat) : Int) = 0 from rfl] at en
  rw [ad_2, en]
  unfold s_X1_byNumbers_l168
  have h := fnd_loop (f := fun s : Int × Me => s_X1_byNumbers_l168_st (s_ad (f + 2)) x q 3 0 (x + 525 + t) (x + 550 + 2 * 0) s.1 s.2) (fun v => (bn2 p n (lsP p n c t v) u w).map fun r => ((v : Int), r)) p.toNat (QNm sh x 0 I J (fun _ => True))
    (fun r y => y.1 = 1 ∧ QNm sh x 0 I J (fun s => s 0 = r.1 ∧ s 1 = r.2.1 ∧ s 2 = r.2.2) y.2) (fun y => y.1 = 0 ∧ QNm sh x 0 I J (fun _ => True) y.2) ?_ ?_ (p - 1).toNat 1 (sh, I, J) (by omega) ⟨I, rfl, AF.refl, fun _ _ => rfl, trivial⟩
  · refine ⟨fun h1 => ?_, fun r h1 => ?_⟩
    · obtain ⟨⟨x1, x2⟩, e, rfl, q⟩ := h.1 h1
      exact ⟨x2, e, q⟩
    · obtain ⟨⟨x1, x2⟩, e, rfl, q⟩ := h.2 r h1
      exact ⟨x2, e, q⟩
  · rintro v μ hv ⟨I1, rfl, q1, q2, -⟩
    have hl1 := hl.keep hp q1 (fun a _ _ => by unfold nS; omega)
    have hc1 := hc.keep q1 (by unfold nS; omega) (by unfold nS; omega)
    have hI1 : I1 (x + 5 + 1) 0 = p := by rw [q1 _ (by unfold nS; omega)]; exact hI
    obtain ⟨I2, e2, r2, nb2, f2⟩ := x1_try (J := J) (G := s_ad (f + 2)) (many := 3) L hI1 hp (k := 0) (v := v) (by omega) Q (by omega) (by omega) hn ht (by omega) hl1 hc1
    rw [show ((0 : Nat) : Int) = 0 from rfl, show (0 : Int) + 1 = 1 from rfl] at e2
    rw [show ((0 : Nat) : Int) = 0 from rfl] at nb2
    have f2' : AF (nS x 0) I1 I2 := f2.mono (fun a ha => by unfold nS; omega)
    have f12 := q1.trans f2'
    have hl2 := hl.keep hp f12 (fun a _ _ => by unfold nS; omega)
    have hI2 : I2 (x + 5 + 1) 0 = p := by rw [f12 _ (by unfold nS; omega)]; exact hI
    have hp2 : I2 (x + 545) 1 = u := by rw [f12 _ (by unfold nS; omega)]; exact h2
    have hp3 : I2 (x + 545) 2 = w := by rw [f12 _ (by unfold nS; omega)]; exact h3
    obtain ⟨t1, t2⟩ := x1_bn2 (J := J) (f := f) (k := 1) (many := 3) L hI2 hp (by omega) (by omega) Q2 (by omega) (by omega) hn hu hw hl2 r2 hp2 hp3
    rw [show ((1 : Nat) : Int) = 1 from rfl] at t1 t2
    have up : ∀ {A : (Int → Int) → Prop} {μ' : Me}, QNm sh x 1 I2 J A μ' → QNm sh x 0 I J (fun s => s 0 = v ∧ A s) μ' := by
      rintro A μ' ⟨I3, rfl, f3, n3, a3⟩
      refine ⟨I3, rfl, f12.trans (f3.mono (fun a ha => by unfold nS at *; omega)), fun j hj => ?_, ?_, a3⟩
      · rw [n3 j (by omega), nb2, upz_n _ _ (by omega), q2 j hj]
      · rw [n3 0 (by omega), nb2, upz_s]
    refine ⟨fun hr => ?_, fun r hr => ?_⟩
    · obtain ⟨μ', e3, e4⟩ := t1 (map_n hr)
      refine ⟨μ', (up e4).mono (fun _ _ => trivial), ?_⟩
      show s_X1_byNumbers_l168_st (s_ad (f + 2)) x q 3 0 (x + 525 + t) (x + 550 + 2 * 0) v (sh, I1, J) = _
      rw [e2, e3]
      rfl
    · obtain ⟨y, hy, rfl⟩ := ms_ hr
      obtain ⟨μ', e3, e4⟩ := t2 y hy
      refine ⟨(1, μ'), ?_, rfl, (up e4).mono (fun s g => ⟨g.1, g.2.1, g.2.2⟩)⟩
      show s_X1_byNumbers_l168_st (s_ad (f + 2)) x q 3 0 (x + 525 + t) (x + 550 + 2 * 0) v (sh, I1, J) = _
      rw [e2, e3]
      rfl
  · rintro μ ⟨I1, rfl, q1, q2, -⟩
    have hI1 : I1 (x + 5 + 1) 0 = p := by rw [q1 _ (by unfold nS; omega)]; exact hI
    exact ⟨_, x1_168_end L hI1 hp, rfl, I1, rfl, q1, q2, trivial⟩
end CPs
