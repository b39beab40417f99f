/-! the component: mixing, values, roots -/
set_option maxRecDepth 100000
theorem ldZ_sh (p : Int) (c : Int → Int) : ∀ n i : Nat, ldZ p (fun k => c (k + 1)) n i + 1 = ldZ p c n (i + 1)
  | 0, i => rfl
  | n + 1, i => by
    unfold ldZ
    by_cases h : c ((i : Int) + 1) % p = 0
    · rw [if_pos h, if_pos (by rw [Int.natCast_add]; exact h)]
      exact ldZ_sh p c n (i + 1)
    · rw [if_neg h, if_neg (by rw [Int.natCast_add]; exact h)]
section CM
variable {sh : Sh} {I J : Nat → Int → Int} {d : Nat} {p : Int}
theorem x7_lin (hf : sh.2.1 d = 5) (hI : I d 0 = p) (hp : Pp p) (u a v b : Int) : s_X7_of d (w32 (u % p) * w32 (a % p) + w32 (v % p) * w32 (b % p)) (sh, I, J) = some ((u * a + v * b) % p, (sh, I, J)) := by
  have h0 := emod_b hp u
  have h1 := emod_b hp a
  have h2 := emod_b hp v
  have h5 := emod_b hp b
  have h3 := hp.b
  have h4 := mul_b hp h0 h1
  have h6 := mul_b hp h2 h5
  rw [w32_id (by omega) (by omega), w32_id (by omega) (by omega), w32_id (by omega) (by omega), w32_id (by omega) (by omega), x7_of hf hI hp (by omega) (by omega), Int.add_emod, ← Int.mul_emod, ← Int.mul_emod, ← Int.add_emod]
theorem x6_times (D : DL sh d) (hI : I (d + 1) 0 = p) (hp : Pp p) {r : Nat} {n : Nat} (u v : Int) {c : Int → Int} (F : FA sh r) (hn : n < 40) (hc : FM I r p n c) (hs : Sup n c) :
    ∃ I', s_X6_times d r (u % p) (v % p) (sh, I, J) = some (sh, I', J) ∧ FM I' r p (n + 1) (mulL u v c) ∧ AF (aF r) I I' := by
  have nn := D.nf F
  unfold s_X6_times
  rw [f_gI F, bsome, hc.1, f_pI F, bsome, f_gI F, bsome, up1_s, upz_s]
  obtain ⟨I1, hI1⟩ : ∃ I1, up1 I r (upz (I r) 1 ((n : Int) + 1)) = I1 := ⟨_, rfl⟩
  rw [hI1]
  have g1 : I1 r 1 = n + 1 := by rw [← hI1, up1_s, upz_s]
  have g2 : I1 (r + 1) = I (r + 1) := by rw [← hI1, up1_n _ _ (by omega)]
  have g3 : AF (aF r) I I1 := by rw [← hI1]; exact AF.one (Or.inl rfl)
  unfold s_X6_times_l16
  refine ex_g (fun I' => ((sh, I', J) : Me)) (whileO_for (n + 2)
    (fun j s => ∃ I', s = ((n : Int) + 1 - j, ((sh, I', J) : Me)) ∧ I' r 1 = n + 1 ∧ (∀ k : Int, 0 ≤ k → k ≤ n + 1 - j → k ≤ n → I' (r + 1) k = c k % p) ∧ (∀ k : Int, n + 1 - j < k → k ≤ n + 1 → I' (r + 1) k = mulL u v c k % p) ∧ AF (aF r) I I')
    _ ?_ ?_ _ ?_)
  · rintro j s hj ⟨I3, rfl, b1, b2, b3, b4⟩
    have hp3 : I3 (d + 1) 0 = p := by rw [b4 (d + 1) (by omega)]; exact hI
    obtain ⟨k, hk⟩ : ∃ k : Int, (n : Int) + 1 - j = k := ⟨_, rfl⟩
    rw [hk] at b2 b3 ⊢
    obtain ⟨I4, e2, k1, k2, k3, k4⟩ := f_put (I := I3) (J := J) F (k := k) (v := mulL u v c k % p) (by omega) (by omega)
    refine ⟨(k + -1, (sh, I4, J)), ?_, I4, by rw [show (n : Int) + 1 - ((j + 1 : Nat) : Int) = k + -1 by omega], by rw [k2]; exact b1, fun l g1 g2 g3 => ?_, fun l g1 g2 => ?_, b4.trans k4⟩
    · unfold s_X6_times_l16_st
      dsimp only
      simp (disch := omega) only [bsome, d_ck D, d_f D, d_one D, d_two D, d_left D, d_right D, d_cho D, dc_a D, dc_u D, d_ckf D, f_gI F, f_gR F, b1, w32_id (x := k), w32_id (x := (n : Int) + 1), if_neg, ifT]
      by_cases hkn : (n : Int) + 1 ≤ k
      · rw [if_pos hkn]
        unfold s_X6_times_b55
        simp (disch := omega) only [bsome, f_gR F, f_aI F, w32_id (x := k), if_neg, ifT]
        rw [b2 (k - 1) (by omega) (by omega) (by omega)]
        unfold s_X6_times_b77
        rw [d_ckf D, bsome, Int.zero_add, x7_mul D.ff hp3 hp, bsome]
        have : mulL u v c k = v * c (k - 1) := by
          unfold mulL
          rw [hs k (by omega), Int.mul_zero, Int.zero_add]
        rw [← this, e2]
        rfl
      · rw [if_neg hkn]
        simp (disch := omega) only [bsome, f_aI F]
        rw [b2 k (by omega) (by omega) (by omega)]
        unfold s_X6_times_b55
        simp (disch := omega) only [bsome, f_gR F, w32_id (x := k)]
        by_cases hk0 : k ≤ 0
        · rw [if_pos hk0]
          unfold s_X6_times_b77
          rw [d_ckf D, bsome, Int.add_zero, x7_mul D.ff hp3 hp, bsome]
          have : mulL u v c k = u * c k := by
            unfold mulL
            rw [hs (k - 1) (by omega), Int.mul_zero, Int.add_zero]
          rw [← this, e2]
          rfl
        · rw [if_neg hk0]
          simp (disch := omega) only [bsome, f_aI F]
          rw [b2 (k - 1) (by omega) (by omega) (by omega)]
          unfold s_X6_times_b77
          rw [d_ckf D, bsome, x7_lin D.ff hp3 hp, bsome]
          rw [show u * c k + v * c (k - 1) = mulL u v c k from rfl, e2]
          rfl
    · rw [k3 l (by omega)]
      exact b2 l g1 (by omega) g3
    · by_cases e : l = k
      · rw [e, k1]
      · rw [k3 l e]
        exact b3 l (by omega) g2
  · rintro s ⟨I3, rfl, b1, b2, b3, b4⟩
    unfold s_X6_times_l16_st
    dsimp only
    simp (disch := omega) only [w32_id, if_pos, ifT]
    exact ⟨_, rfl, I3, rfl, ⟨b1, fun k x y => b3 k (by omega) y⟩, b4⟩
  · exact ⟨I1, by simp, g1, fun k x y z => by rw [g2]; exact hc.2 k x z, fun k x y => by omega, g3⟩
theorem x6_mix82 (D : DL sh d) (hI : I (d + 1) 0 = p) (hp : Pp p) {q to : Nat} {a b c e n k : Int} {x A B : Int → Int} (F : FA sh q) (h1 : q ≠ d + 4) (hk : 0 ≤ k ∧ k ≤ n) (hn : n ≤ 40) (hx : FM I q p n x) (hA : FM I (d + 4) p k A) (hB : FM I (d + 6) p k B) :
    ∃ I', s_X6_mixed_l82 d q a b c e to n k 0 (sh, I, J) = some (.inl (k + 1, (sh, I', J))) ∧ FM I' (d + 4) p k (fun j => A j + x k * B j) ∧ AF (aF (d + 4)) I I' := by
  have G := D.ftwo
  have G2 := D.fleft
  have nn := D.nf G
  have n1 := F.ap G h1
  unfold AP at n1
  unfold s_X6_mixed_l82
  refine ex_g (fun I' => Sum.inl (k + 1, ((sh, I', J) : Me))) (whileO_for (k + 1).toNat
    (fun j s => ∃ I', s = ((j : Int), ((sh, I', J) : Me)) ∧ I' (d + 4) 1 = k ∧ (∀ l : Int, 0 ≤ l → l < j → I' (d + 4 + 1) l = (A l + x k * B l) % p) ∧ (∀ l : Int, j ≤ l → l ≤ k → I' (d + 4 + 1) l = A l % p) ∧ AF (aF (d + 4)) I I')
    _ ?_ ?_ _ ?_)
  · rintro j s hj ⟨I3, rfl, a1, a2, a3, a4⟩
    have b1 := a3 j (by omega) (by omega)
    have b2 := (hB.keep a4 (by omega) (by omega)).2 j (by omega) (by omega)
    have b3 := (hx.keep a4 (by omega) (by omega)).2 k (by omega) (by omega)
    have hp3 : I3 (d + 1) 0 = p := by rw [a4 (d + 1) (by omega)]; exact hI
    obtain ⟨I4, e2, k1, k2, k3, k4⟩ := f_put (I := I3) (J := J) G (k := j) (v := (A j + x k * B j) % p) (by omega) (by omega)
    refine ⟨((j : Int) + 1, (sh, I4, J)), ?_, I4, by simp, by rw [k2]; exact a1, fun l x y => ?_, fun l x y => ?_, a4.trans k4⟩
    · unfold s_X6_mixed_l82_st
      dsimp only
      simp (disch := omega) only [bsome, d_ck D, d_f D, d_one D, d_two D, d_left D, d_right D, d_cho D, dc_a D, dc_u D, d_ckf D, f_gR F, f_aI F, f_gR G, f_aI G, f_gR G2, f_aI G2, w32_id (x := k), w32_id (x := (j : Int)), if_neg, b1, b2, b3, x7_fma D.ff hp3 hp, e2, ifT]
    · by_cases e : l = j
      · rw [e, k1]
      · rw [k3 _ (by omega)]
        exact a2 l x (by omega)
    · rw [k3 _ (by omega)]
      exact a3 l (by omega) y
  · rintro s ⟨I3, rfl, a1, a2, a3, a4⟩
    unfold s_X6_mixed_l82_st
    dsimp only
    simp (disch := omega) only [w32_id, if_pos, ifT]
    exact ⟨_, rfl, I3, rfl, ⟨a1, fun l x y => a2 l x (by omega)⟩, a4⟩
  · exact ⟨I, rfl, hA.1, fun l x y => absurd y (by omega), fun l x y => hA.2 l (by omega) y, AF.refl⟩
theorem sup_hoP (a b c e : Int) (x : Int → Int) : ∀ n : Nat, Sup n (hoP a b c e x n)
  | 0 => fun k hk => if_neg (by omega)
  | n + 1 => by
    intro k hk
    have h1 := (sup_hoP a b c e x n).mulL (u := a) (v := b)
    have h2 := (Sup.cst (v := 1)).itL (u := c) (v := e) (n + 1)
    show mulL a b (hoP a b c e x n) k + x (n + 1) * itL (n + 1) c e (cst 1) k = 0
    rw [h1 k (by omega), h2 k (by omega), Int.mul_zero, Int.zero_add]
theorem x6_mixed (D : DL sh d) (hI : I (d + 1) 0 = p) (hp : Pp p) {q to : Nat} {n : Nat} (a b c e : Int) {x : Int → Int} (F1 : FA sh q) (F3 : FA sh to) (h1 : q ≠ d + 4 ∧ q ≠ d + 6) (h3 : to ≠ d + 4 ∧ to ≠ d + 6) (hn : n ≤ 40) (hx : FM I q p n x) :
    ∃ I', s_X6_mixed d q (a % p) (b % p) (c % p) (e % p) to (sh, I, J) = some (sh, I', J) ∧ FM I' to p n (mixP n a b c e x) ∧ AF (fun i => aF (d + 4) i ∨ aF (d + 6) i ∨ aF to i) I I' := by
  have hb := hp.b
  have G := D.ftwo
  have G2 := D.fleft
  have nn := D.nf G
  have nn2 := D.nf G2
  have n1 := F1.ap G h1.1
  have n2 := F1.ap G2 h1.2
  have n3 := F3.ap G h3.1
  unfold AP at n1 n2 n3
  obtain ⟨I1, c1, c2, c4, c3⟩ := x8_nought (I := I) (J := J) G p (d := 0) (by omega)
  have x1 := (hx.keep c3 (by omega) (by omega)).2 0 (by omega) (by omega)
  obtain ⟨I2, e2, k1, k2, k3, k4⟩ := f_put (I := I1) (J := J) G (k := 0) (v := x 0 % p) (by omega) (by omega)
  obtain ⟨I3, g1, g2, g4, g3⟩ := x8_nought (I := I2) (J := J) G2 p (d := 0) (by omega)
  obtain ⟨I4, j2, l1, l2, l3, l4⟩ := f_put (I := I3) (J := J) G2 (k := 0) (v := 1) (by omega) (by omega)
  have fr : AF (fun i => aF (d + 4) i ∨ aF (d + 6) i) I I4 := ((c3.mono (fun _ => Or.inl)).trans (k4.mono (fun _ => Or.inl))).trans ((g3.mono (fun _ => Or.inr)).trans (l4.mono (fun _ => Or.inr)))
  have two : FM I4 (d + 4) p 0 (hoP a b c e x 0) := by
    have h9 : FM I2 (d + 4) p 0 (hoP a b c e x 0) := ⟨by rw [k2]; exact c2.1, fun k u v => by
      have : k = 0 := by omega
      rw [this, k1]
      rfl⟩
    exact (h9.keep g3 (by omega) (by omega)).keep l4 (by omega) (by omega)
  have left : FM I4 (d + 6) p 0 (itL 0 c e (cst 1)) := ⟨by rw [l2]; exact g2.1, fun k u v => by
    have : k = 0 := by omega
    rw [this, l1]
    show 1 = 1 % p
    rw [Int.emod_eq_of_lt (by omega) (by omega)]⟩
  unfold s_X6_mixed
  simp (disch := omega) only [bsome, d_ck D, d_f D, d_one D, d_two D, d_left D, d_right D, d_cho D, dc_a D, dc_u D, d_ckf D, f_gI F1, f_gR F1, f_aI F1, f_ck G, f_ck G2, f_gR G, f_gR G2, hx.1, x1, c1, e2, g1, j2]
  unfold s_X6_mixed_l50
  refine ex_g (fun I' => ((sh, I', J) : Me)) (whileO_for n
    (fun k s => ∃ I', s = (1 + (k : Int), ((sh, I', J) : Me)) ∧ FM I' (d + 4) p k (hoP a b c e x k) ∧ FM I' (d + 6) p k (itL k c e (cst 1)) ∧ AF (fun i => aF (d + 4) i ∨ aF (d + 6) i) I I')
    _ ?_ ?_ _ ?_)
  · rintro k s hk ⟨I5, rfl, a1, a2, a4⟩
    have hp5 : I5 (d + 1) 0 = p := by rw [a4 (d + 1) (by omega)]; exact hI
    obtain ⟨I6, m1, m2, m3⟩ := x6_times (J := J) D hp5 hp a b G (by omega) a1 (sup_hoP _ _ _ _ _ _)
    have f6 := a4.trans (m3.mono (S' := fun i => aF (d + 4) i ∨ aF (d + 6) i) (fun _ => Or.inl))
    have hp6 : I6 (d + 1) 0 = p := by rw [f6 (d + 1) (by omega)]; exact hI
    obtain ⟨I7, o1, o2, o3⟩ := x6_times (J := J) D hp6 hp c e G2 (by omega) (a2.keep m3 (by omega) (by omega)) (by
      have := (Sup.cst (v := 1)).itL (u := c) (v := e) k
      rw [show (0 : Int) + k = k by omega] at this
      exact this)
    have f7 := f6.trans (o3.mono (S' := fun i => aF (d + 4) i ∨ aF (d + 6) i) (fun _ => Or.inr))
    have hp7 : I7 (d + 1) 0 = p := by rw [f7 (d + 1) (by omega)]; exact hI
    obtain ⟨I8, r1, r2, r3⟩ := x6_mix82 (J := J) (to := to) (a := a % p) (b := b % p) (c := c % p) (e := e % p) (k := (k : Int) + 1) D hp7 hp F1 h1.1 (by omega) (show (n : Int) ≤ 40 by omega) (hx.keep f7 (by omega) (by omega)) (m2.keep o3 (by omega) (by omega)) o2
    refine ⟨((k : Int) + 1 + 1, (sh, I8, J)), ?_, I8, by rw [show 1 + ((k + 1 : Nat) : Int) = k + 1 + 1 by omega], ?_, ?_, f7.trans (r3.mono (fun _ => Or.inl))⟩
    · unfold s_X6_mixed_l50_st
      dsimp only
      simp (disch := omega) only [bsome, d_ck D, d_f D, d_one D, d_two D, d_left D, d_right D, d_cho D, dc_a D, dc_u D, d_ckf D, w32_id, if_neg, m1, o1, ifT]
      rw [Int.add_comm 1 (k : Int)]
      exact r1
    · rw [show ((k + 1 : Nat) : Int) = k + 1 by omega]
      exact r2
    · rw [show ((k + 1 : Nat) : Int) = k + 1 by omega]
      exact o2.keep r3 (by omega) (by omega)
  · rintro s ⟨I5, rfl, a1, a2, a4⟩
    obtain ⟨I6, m1, m2, m3⟩ := x8_be (I := I5) (J := J) F3 G (by omega) (by omega) a1
    unfold s_X6_mixed_l50_st s_X6_mixed_b150
    dsimp only
    simp (disch := omega) only [bsome, d_ck D, d_f D, d_one D, d_two D, d_left D, d_right D, d_cho D, dc_a D, dc_u D, d_ckf D, w32_id, if_pos, f_ck F3, m1, ifT]
    refine ⟨_, rfl, I6, rfl, ?_, (a4.mono (fun i h => by omega)).trans (m3.mono (fun i h => by omega))⟩
    rw [← hoP_mixP]
    exact m2
  · exact ⟨I4, by simp, two, left, fr⟩
theorem x6_at (D : DL sh d) (hI : I (d + 1) 0 = p) (hp : Pp p) {q : Nat} {n : Int} (u v : Int) {x : Int → Int} (F : FA sh q) (hn : 0 ≤ n ∧ n ≤ 40) (hx : FM I q p n x) : s_X6_at d q (u % p) (v % p) (sh, I, J) = some (evP n x u v % p, (sh, I, J)) := by
  unfold s_X6_at s_X6_at_l6
  refine whileO_tr (n + 1).toNat (fun i => (sm i (fun k => x k * (u ^ (n.toNat - k) * v ^ k)) % p, (i : Int), (sh, I, J))) ?_ (fun i hi => ?_) ?_
  · unfold sm
    rw [Int.zero_emod]
    rfl
  · unfold s_X6_at_l6_st
    dsimp only
    have h1 := hx.2 i (by omega) (by omega)
    simp (disch := omega) only [bsome, d_ck D, d_f D, d_one D, d_two D, d_left D, d_right D, d_cho D, dc_a D, dc_u D, d_ckf D, f_gI F, f_gR F, f_aI F, hx.1, w32_id (x := n), w32_id (x := (i : Int)), if_neg, h1, x7_power D.ff hI hp, x7_mul D.ff hI hp, x7_fma D.ff hI hp, ifT]
    rw [show (n - (i : Int)).toNat = n.toNat - i by omega, Int.toNat_natCast]
    rfl
  · unfold s_X6_at_l6_st
    dsimp only
    simp (disch := omega) only [bsome, f_gI F, hx.1, w32_id, if_pos, ifT]
    rfl
theorem x7_syn (hf : sh.2.1 d = 5) (hI : I d 0 = p) (hp : Pp p) (a b : Int) {t : Int} (ht : 0 ≤ t ∧ t < p) : s_X7_of d (w32 (a % p) * w32 t + w32 (b % p)) (sh, I, J) = some ((b + t * a) % p, (sh, I, J)) := by
  have h0 := emod_b hp a
  have h1 := emod_b hp b
  have h3 := hp.b
  have h4 := mul_b hp h0 ht
  rw [w32_id (by omega) (by omega), w32_id (by omega) (by omega), w32_id (by omega) (by omega), x7_of hf hI hp (by omega) (by omega), Int.add_emod, emod_mul_l, emod_emod_, ← Int.add_emod, Int.add_comm, Int.mul_comm a t]
/-- what is carried -/
def cyD (t : Int) (c : Int → Int) : Nat → Int
  | 0 => 0
  | k + 1 => syD t c k
theorem cyD_eq (t : Int) (c : Int → Int) : ∀ k : Nat, syD t c k = c k + t * cyD t c k
  | 0 => by
    show c 0 = c (0 : Nat) + t * 0
    rw [Int.mul_zero, Int.add_zero]
    rfl
  | k + 1 => rfl
abbrev dvO (p t : Int) (n : Nat) (c : Int → Int) : Prop := if t = p then c 0 % p = 0 else syD t c (n + 1) % p = 0
def dvN (p t : Int) (c : Int → Int) : Int → Int := if t = p then fun k => c (k + 1) else fun k => syD t c k.toNat
theorem x6_divides (D : DL sh d) (hI : I (d + 1) 0 = p) (hp : Pp p) {n : Nat} {t : Int} {c : Int → Int} (hn : n < 40) (ht : 0 ≤ t ∧ t ≤ p) (hc : FM I (d + 2) p ((n + 1 : Nat) : Int) c) :
    (dvO p t n c → ∃ I', s_X6_divides d t (sh, I, J) = some (1, (sh, I', J)) ∧ FM I' (d + 2) p n (dvN p t c) ∧ AF (fun i => aF (d + 2) i ∨ aF (d + 4) i) I I') ∧
    (¬ dvO p t n c → ∃ I', s_X6_divides d t (sh, I, J) = some (0, (sh, I', J)) ∧ AF (fun i => aF (d + 2) i ∨ aF (d + 4) i) I I') := by
  have hb := hp.b
  have G := D.fone
  have G2 := D.ftwo
  have nn := D.nf G
  have nn2 := D.nf G2
  unfold s_X6_divides
  rw [d_one D, bsome, f_gI G, bsome, hc.1, d_f D, bsome, gI_m D.ff, bsome, hI, w32_id (x := t) (by omega) (by omega), w32_id (x := p) (by omega) (by omega)]
  have fin : ∀ I3 : Nat → Int → Int, I3 (d + 2) 1 = ((n + 1 : Nat) : Int) → s_X6_divides_b163 d (sh, I3, J) = some (1, (sh, up1 I3 (d + 2) (upz (I3 (d + 2)) 1 n), J)) := by
    intro I3 h
    unfold s_X6_divides_b163
    simp only [bsome, d_one D, f_gI G, f_pI G, h]
    rw [show ((n + 1 : Nat) : Int) - 1 = n by omega]
  by_cases htp : t = p
  · rw [if_pos htp, bsome, f_gR G, bsome, f_aI G (by omega) (by omega), bsome, hc.2 0 (by omega) (by omega), w32_id (by have := emod_b hp (c 0); omega) (by have := emod_b hp (c 0); omega)]
    unfold dvO dvN
    rw [if_pos htp, if_pos htp]
    refine ⟨fun h => ?_, fun h => ?_⟩
    · rw [if_pos h]
      unfold s_X6_divides_l35
      refine ex_g (fun I' => ((1, (sh, I', J)) : Int × Me)) (whileO_for (n + 1)
        (fun j s => ∃ I', s = ((j : Int), ((sh, I', J) : Me)) ∧ I' (d + 2) 1 = ((n + 1 : Nat) : Int) ∧ (∀ k : Int, 0 ≤ k → k < j → I' (d + 2 + 1) k = c (k + 1) % p) ∧ (∀ k : Int, j ≤ k → k ≤ n + 1 → I' (d + 2 + 1) k = c k % p) ∧ AF (fun i => aF (d + 2) i ∨ aF (d + 4) i) I I')
        _ ?_ ?_ _ ?_)
      · rintro j s hj ⟨I3, rfl, b1, b2, b3, b4⟩
        obtain ⟨I4, e2, k1, k2, k3, k4⟩ := f_put (I := I3) (J := J) G (k := j) (v := c (j + 1) % p) (by omega) (by omega)
        refine ⟨((j : Int) + 1, (sh, I4, J)), ?_, I4, by simp, by rw [k2]; exact b1, fun l x y => ?_, fun l x y => ?_, b4.trans (k4.mono (fun _ => Or.inl))⟩
        · unfold s_X6_divides_l35_st
          dsimp only
          simp (disch := omega) only [bsome, d_ck D, d_f D, d_one D, d_two D, d_left D, d_right D, d_cho D, dc_a D, dc_u D, d_ckf D, f_gR G, f_aI G, w32_id, if_neg, b3 (j + 1), e2, ifT]
        · by_cases e : l = j
          · rw [e, k1]
          · rw [k3 _ e]
            exact b2 l x (by omega)
        · rw [k3 _ (by omega)]
          exact b3 l (by omega) y
      · rintro s ⟨I3, rfl, b1, b2, b3, b4⟩
        unfold s_X6_divides_l35_st s_X6_divides_b66
        dsimp only
        simp (disch := omega) only [w32_id, if_pos, fin I3 b1, ifT]
        refine ⟨_, rfl, _, rfl, ⟨?_, fun k x y => ?_⟩, b4.trans (AF.one (Or.inl (Or.inl rfl)))⟩
        · rw [up1_s, upz_s]
        · rw [up1_n _ _ (by omega)]
          exact b2 k x (by omega)
      · exact ⟨I, rfl, hc.1, fun k x y => by omega, fun k x y => hc.2 k (by omega) (by omega), AF.refl⟩
    · rw [if_neg h]
      exact ⟨I, rfl, AF.refl⟩
  · rw [if_neg htp]
    unfold dvO dvN
    rw [if_neg htp, if_neg htp]
    have key : ∃ r, s_X6_divides_l74 d t ((n + 1 : Nat) : Int) 0 0 (sh, I, J) = some r ∧ ((syD t c (n + 1) % p = 0 → ∃ I', r = (1, (sh, I', J)) ∧ FM I' (d + 2) p n (fun k => syD t c k.toNat) ∧ AF (fun i => aF (d + 2) i ∨ aF (d + 4) i) I I') ∧ (¬ syD t c (n + 1) % p = 0 → ∃ I', r = (0, (sh, I', J)) ∧ AF (fun i => aF (d + 2) i ∨ aF (d + 4) i) I I')) := by
      unfold s_X6_divides_l74
      refine whileO_for (n + 2)
        (fun j s => ∃ I', s = (cyD t c j % p, (j : Int), ((sh, I', J) : Me)) ∧ (∀ k : Nat, k < j → I' (d + 4 + 1) k = syD t c k % p) ∧ AF (fun i => aF (d + 4) i) I I')
        _ ?_ ?_ _ ?_
      · rintro j s hj ⟨I3, rfl, b2, b4⟩
        have hp3 : I3 (d + 1) 0 = p := by rw [b4 (d + 1) (by omega)]; exact hI
        have h1 := (hc.keep b4 (by omega) (by omega)).2 j (by omega) (by omega)
        obtain ⟨I4, e2, k1, k2, k3, k4⟩ := f_put (I := I3) (J := J) G2 (k := j) (v := (c j + t * cyD t c j) % p) (by omega) (by omega)
        refine ⟨((c j + t * cyD t c j) % p, (j : Int) + 1, (sh, I4, J)), ?_, I4, ?_, fun l x => ?_, b4.trans k4⟩
        · unfold s_X6_divides_l74_st
          dsimp only
          simp (disch := omega) only [bsome, d_ck D, d_f D, d_one D, d_two D, d_left D, d_right D, d_cho D, dc_a D, dc_u D, d_ckf D, f_gR G, f_aI G, f_gR G2, w32_id (x := ((n + 1 : Nat) : Int)), w32_id (x := (j : Int)), if_neg, h1, ifT]
          rw [x7_syn D.ff hp3 hp _ _ (by omega), bsome]
          simp (disch := omega) only [bsome, d_ck D, d_f D, d_one D, d_two D, d_left D, d_right D, d_cho D, dc_a D, dc_u D, d_ckf D, f_gR G2, e2]
        · rw [← cyD_eq]
          simp [cyD]
        · by_cases e : l = j
          · rw [e, k1, cyD_eq]
          · rw [k3 _ (by omega)]
            exact b2 l (by omega)
      · rintro s ⟨I3, rfl, b2, b4⟩
        unfold s_X6_divides_l74_st s_X6_divides_b122
        dsimp only
        have he := emod_b hp (cyD t c (n + 2))
        simp (disch := omega) only [w32_id (x := ((n + 1 : Nat) : Int)), w32_id (x := ((n + 2 : Nat) : Int)), w32_id (x := cyD t c (n + 2) % p), if_pos, ifT]
        by_cases hz : syD t c (n + 1) % p = 0
        · rw [if_pos (show cyD t c (n + 2) % p = 0 from hz)]
          have h9 : ∃ I', s_X6_divides_l131 d ((n + 1 : Nat) : Int) 0 (sh, I3, J) = some ((1, (sh, I', J)) : Int × Me) ∧ FM I' (d + 2) p n (fun k => syD t c k.toNat) ∧ AF (fun i => aF (d + 2) i ∨ aF (d + 4) i) I I' := by
            unfold s_X6_divides_l131
            refine ex_g (fun I' => ((1, (sh, I', J)) : Int × Me)) (whileO_for (n + 1)
              (fun j s => ∃ I', s = ((j : Int), ((sh, I', J) : Me)) ∧ I' (d + 2) 1 = ((n + 1 : Nat) : Int) ∧ (∀ k : Nat, k < j → I' (d + 2 + 1) k = syD t c k % p) ∧ I' (d + 4 + 1) = I3 (d + 4 + 1) ∧ AF (fun i => aF (d + 2) i ∨ aF (d + 4) i) I I')
              _ ?_ ?_ _ ?_)
            · rintro j s hj ⟨I5, rfl, q1, q2, q3, q4⟩
              obtain ⟨I4, e2, k1, k2, k3, k4⟩ := f_put (I := I5) (J := J) G (k := j) (v := syD t c j % p) (by omega) (by omega)
              refine ⟨((j : Int) + 1, (sh, I4, J)), ?_, I4, by simp, by rw [k2]; exact q1, fun l x => ?_, by rw [k4 (d + 4 + 1) (by omega), q3], q4.trans (k4.mono (fun _ => Or.inl))⟩
              · unfold s_X6_divides_l131_st
                dsimp only
                simp (disch := omega) only [bsome, d_ck D, d_f D, d_one D, d_two D, d_left D, d_right D, d_cho D, dc_a D, dc_u D, d_ckf D, f_gR G, f_gR G2, f_aI G2, w32_id, if_neg, q3, b2 j, e2, ifT]
              · by_cases e : l = j
                · rw [e, k1]
                · rw [k3 _ (by omega)]
                  exact q2 l (by omega)
            · rintro s ⟨I5, rfl, q1, q2, q3, q4⟩
              unfold s_X6_divides_l131_st
              dsimp only
              simp (disch := omega) only [w32_id, if_pos, fin I5 q1, ifT]
              refine ⟨_, rfl, _, rfl, ⟨?_, fun k x y => ?_⟩, q4.trans (AF.one (Or.inl (Or.inl rfl)))⟩
              · rw [up1_s, upz_s]
              · rw [up1_n _ _ (by omega)]
                have := q2 k.toNat (by omega)
                rw [Int.toNat_of_nonneg x] at this
                exact this
            · exact ⟨I3, rfl, by rw [b4 (d + 2) (by omega)]; exact hc.1, fun k x => absurd x (by omega), rfl, b4.mono (fun _ => Or.inr)⟩
          obtain ⟨I', z1, z2, z3⟩ := h9
          exact ⟨_, by rw [z1]; rfl, fun _ => ⟨I', rfl, z2, z3⟩, fun h => absurd hz h⟩
        · rw [if_neg (show ¬ cyD t c (n + 2) % p = 0 from hz)]
          exact ⟨_, rfl, fun h => absurd h hz, fun _ => ⟨I3, rfl, b4.mono (fun _ => Or.inr)⟩⟩
      · refine ⟨I, ?_, fun k x => absurd x (by omega), AF.refl⟩
        show ((0 : Int), (0 : Int), ((sh, I, J) : Me)) = (0 % p, 0, (sh, I, J))
        rw [Int.zero_emod]
    obtain ⟨r, z1, z2, z3⟩ := key
    refine ⟨fun h => ?_, fun h => ?_⟩
    · obtain ⟨I', e, g1, g2⟩ := z2 h
      exact ⟨I', by rw [z1, e], g1, g2⟩
    · obtain ⟨I', e, g1⟩ := z3 h
      exact ⟨I', by rw [z1, e], g1⟩
theorem x6_rt (D : DL sh d) (hp : Pp p) {t : Int} (ht : 0 ≤ t ∧ t ≤ p) : ∀ (n : Nat) (c : Int → Int) (I : Nat → Int → Int) (k : Int), I (d + 1) 0 = p → n ≤ 40 → FM I (d + 2) p n c →
    ∃ I', s_X6_root_l20 d t k (sh, I, J) = some (k + ofR p n c t, (sh, I', J)) ∧ AF (fun i => aF (d + 2) i ∨ aF (d + 4) i) I I'
  | 0, c, I, k, hI, hn, hc => by
    unfold s_X6_root_l20
    rw [whileO_eq]
    unfold s_X6_root_l20_st
    dsimp only
    simp (disch := omega) only [bsome, d_ck D, d_f D, d_one D, d_two D, d_left D, d_right D, d_cho D, dc_a D, dc_u D, d_ckf D, f_gI D.fone, hc.1, w32_id, if_pos, ifT]
    refine ⟨I, ?_, AF.refl⟩
    have : ofR p 0 c t = 0 := by
      unfold ofR
      split <;> rfl
    rw [this, Int.add_zero]
    rfl
  | n + 1, c, I, k, hI, hn, hc => by
    have G := D.fone
    have nn := D.nf G
    have nn2 := D.nf D.ftwo
    obtain ⟨y1, y2⟩ := x6_divides (J := J) D hI hp (show n < 40 by omega) ht hc
    unfold s_X6_root_l20
    rw [whileO_eq]
    unfold s_X6_root_l20_st
    dsimp only
    simp (disch := omega) only [bsome, d_ck D, d_f D, d_one D, d_two D, d_left D, d_right D, d_cho D, dc_a D, dc_u D, d_ckf D, f_gI G, hc.1, w32_id, if_neg, ifT]
    by_cases h : dvO p t n c
    · obtain ⟨I1, e1, e2, e3⟩ := y1 h
      rw [e1, bsome]
      dsimp only
      rw [if_neg (show ¬ w32 1 = 0 by decide)]
      obtain ⟨I2, g1, g2⟩ := x6_rt D hp ht n (dvN p t c) I1 (k + 1) (by rw [e3 (d + 1) (by omega)]; exact hI) (by omega) e2
      refine ⟨I2, ?_, e3.trans g2⟩
      have : ofR p (n + 1) c t = 1 + ofR p n (dvN p t c) t := by
        unfold ofR dvN
        unfold dvO at h
        by_cases htp : t = p
        · rw [if_pos htp] at h
          rw [if_pos htp, if_pos htp, if_pos htp]
          have := ldZ_sh p c n 0
          have e9 : ldZ p c (n + 1) 0 = ldZ p c n 1 := if_pos h
          rw [e9, ← this]
          omega
        · rw [if_neg htp] at h
          rw [if_neg htp, if_neg htp, if_neg htp]
          exact if_pos h
      rw [this, show k + (1 + ofR p n (dvN p t c) t) = k + 1 + ofR p n (dvN p t c) t by omega]
      exact g1
    · obtain ⟨I1, e1, e3⟩ := y2 h
      rw [e1, bsome]
      dsimp only
      rw [if_pos (show w32 0 = 0 from rfl)]
      refine ⟨I1, ?_, e3⟩
      have : ofR p (n + 1) c t = 0 := by
        unfold ofR
        unfold dvO at h
        by_cases htp : t = p
        · rw [if_pos htp] at h
          rw [if_pos htp]
          have : ldZ p c (n + 1) 0 = 0 := if_neg h
          rw [this]
          rfl
        · rw [if_neg htp] at h
          rw [if_neg htp]
          exact if_neg h
      rw [this, Int.add_zero]
      rfl
theorem x6_root (D : DL sh d) (hI : I (d + 1) 0 = p) (hp : Pp p) {q n : Nat} {t : Int} {x : Int → Int} (F : FA sh q) (h1 : q ≠ d + 2) (hn : n ≤ 40) (ht : 0 ≤ t ∧ t ≤ p) (hx : FM I q p n x) :
    ∃ I', s_X6_root d q t (sh, I, J) = some (rtP p (n, x) t, (sh, I', J)) ∧ AF (fun i => aF (d + 2) i ∨ aF (d + 4) i) I I' := by
  have G := D.fone
  have nn := D.nf G
  have ap := F.ap G h1
  unfold AP at ap
  have hb := nzI_iff p x (n + 1)
  have h9 := x8_isNought (I := I) (J := J) F hp (d := n) (c := x) (by omega) hx
  rw [show ((n : Int) + 1).toNat = n + 1 by omega] at h9
  unfold s_X6_root rtP
  rw [f_ck F, bsome, h9, bsome]
  dsimp only
  rcases hb.1 with h | h
  · rw [h, if_pos (show w32 0 = 0 from rfl), d_one D, bsome, f_ck G, bsome]
    obtain ⟨I1, e1, e2, e3⟩ := x8_be (I := I) (J := J) G F (by omega) (by omega) hx
    rw [e1, bsome]
    obtain ⟨I2, g1, g2⟩ := x6_rt (J := J) D hp ht n x I1 0 (by rw [e3 (d + 1) (by omega)]; exact hI) hn e2
    refine ⟨I2, ?_, (e3.mono (fun _ => Or.inl)).trans g2⟩
    rw [g1, if_neg (show ¬ (0 : Int) = 1 by decide), Int.zero_add]
  · rw [h, if_neg (show ¬ w32 1 = 0 by decide), if_pos rfl]
    exact ⟨I, rfl, AF.refl⟩
end CM
