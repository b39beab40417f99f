/-! the component: what is left of a division -/
set_option maxRecDepth 100000
theorem ldZ_eq {p : Int} {c : Int → Int} : ∀ (n i k : Nat), i ≤ k → k ≤ i + n → (∀ j : Nat, i ≤ j → j < k → c j % p = 0) → (k < i + n → c k % p ≠ 0) → ldZ p c n i = k
  | 0, i, k, h1, h2, _, _ => by
    show i = k
    omega
  | n + 1, i, k, h1, h2, h3, h4 => by
    unfold ldZ
    by_cases e : i = k
    · subst e
      rw [if_neg (h4 (by omega))]
    · rw [if_pos (h3 i (Nat.le_refl _) (by omega))]
      exact ldZ_eq n (i + 1) k (by omega) (by omega) (fun j a b => h3 j (by omega) b) (fun h => h4 (by omega))
/-- noughts ahead: steps change nothing -/
theorem dvA_skip {p s : Int} {d : Nat} {B A : Int → Int} (k : Nat) : ∀ n : Nat, (∀ i : Nat, k ≤ i → i < k + n → dvA s d B A k i % p = 0) → ∀ j : Int, dvA s d B A (k + n) j % p = dvA s d B A k j % p
  | 0, _, j => rfl
  | n + 1, h, j => by
    have ih := dvA_skip (p := p) k n (fun i a b => h i a (by omega))
    have h0 : dvA s d B A (k + n) ((k + n : Nat) : Int) % p = 0 := by rw [ih]; exact h (k + n) (by omega) (by omega)
    show (dvA s d B A (k + n) j - dvA s d B A (k + n) ((k + n : Nat) : Int) * s * cl d B (j - ((k + n : Nat) : Int))) % p = _
    rw [← ih j, Int.sub_emod, Int.mul_assoc, ← emod_mul_l, h0, Int.zero_mul, Int.zero_emod, Int.sub_zero, emod_emod_]
section CX1
variable {sh : Sh} {I J : Nat → Int → Int} {x : Nat} {p : Int} {W : Int → Int}
theorem x7_dif {d : Nat} (hf : sh.2.1 d = 5) (hI : I d 0 = p) (hp : Pp p) (a b c : Int) : s_X7_of d (w32 (a % p) - w32 (b % p) * w32 (c % p)) (sh, I, J) = some ((a - b * c) % p, (sh, I, J)) := by
  have h0 := emod_b hp a
  have h1 := emod_b hp b
  have h2 := emod_b hp c
  have h3 := hp.b
  have h4 := mul_b hp h1 h2
  rw [w32_id (by omega) (by omega), w32_id (by omega) (by omega), w32_id (by omega) (by omega), x7_of hf hI hp (by omega) (by omega), Int.sub_emod, emod_emod_, ← Int.mul_emod, ← Int.sub_emod]
/-- one step: times the other is taken off -/
theorem x1_rest60 (L : CL sh x) (hI : I (x + 5 + 1) 0 = p) (hp : Pp p) {q1 q2 : Nat} {e n : Nat} {t s : Int} {c B : Int → Int} (he : e ≤ 40) (hn : n ≤ e) (Q1 : FA sh q1) (Q2 : FA sh q2) (hne : q1 ≠ q2) (hc : FM I q1 p e c) (hB : FM I q2 p n B) :
    ∃ I', s_X1_rest_l60 x q1 q2 s (t % p) 0 (sh, I, J) = s_X1_rest_b113 x q1 q2 s (sh, I', J) ∧ FM I' q1 p e (fun j => c j - t * cl n B j) ∧ AF (aF q1) I I' := by
  have D := L.dl
  have ap := Q1.ap Q2 hne
  have nn := D.nf Q1
  unfold AP at ap
  have key : ∀ (m j : Nat) (I' : Nat → Int → Int), j + m = n + 1 → I' q1 1 = e → (∀ k : Int, 0 ≤ k → k < j → k ≤ e → I' (q1 + 1) k = (c k - t * cl n B k) % p) → (∀ k : Int, j ≤ k → k ≤ e → I' (q1 + 1) k = c k % p) → AF (aF q1) I I' →
      ∃ I2, s_X1_rest_l60 x q1 q2 s (t % p) j (sh, I', J) = s_X1_rest_b113 x q1 q2 s (sh, I2, J) ∧ FM I2 q1 p e (fun j => c j - t * cl n B j) ∧ AF (aF q1) I I2 := by
    intro m
    induction m with
    | zero =>
      intro j I' hj a1 a2 a3 a4
      have hd : I' q2 1 = n := by rw [a4 q2 (by omega)]; exact hB.1
      refine ⟨I', ?_, ⟨a1, fun k u v => ?_⟩, a4⟩
      · rw [e_X1_rest_l60]
        unfold s_X1_rest_l60_st
        rw [f_gI Q2, bsome, hd, w32_id (by omega) (by omega), w32_id (by omega) (by omega), if_pos (by omega)]
        cases s_X1_rest_b113 x q1 q2 s (sh, I', J) <;> rfl
      · by_cases h : k < j
        · exact a2 k u h v
        · rw [a3 k (by omega) v]
          dsimp only
          rw [show cl n B k = 0 from if_neg (by omega), Int.mul_zero, Int.sub_zero]
    | succ m ih =>
      intro j I' hj a1 a2 a3 a4
      have hB' := hB.keep a4 (by omega) (by omega)
      have b1 := a3 j (by omega) (by omega)
      have b2 := hB'.2 j (by omega) (by omega)
      have hp3 : I' (x + 5 + 1) 0 = p := by rw [a4 (x + 5 + 1) (by omega)]; exact hI
      obtain ⟨I4, e2, k1, k2, k3, k4⟩ := f_put (I := I') (J := J) Q1 (k := j) (v := (c j - t * B j) % p) (by omega) (by omega)
      obtain ⟨I2, z1, z2, z3⟩ := ih (j + 1) I4 (by omega) (by rw [k2]; exact a1) (fun k u v w => by
        by_cases e9 : k = j
        · rw [e9, k1, cl_in (by omega) (by omega)]
        · rw [k3 _ e9]
          exact a2 k u (by omega) w) (fun k u v => by
        rw [k3 _ (by omega)]
        exact a3 k (by omega) v) (a4.trans k4)
      refine ⟨I2, ?_, z2, z3⟩
      rw [← z1, e_X1_rest_l60]
      unfold s_X1_rest_l60_st
      rw [f_gI Q2, bsome, hB'.1, w32_id (x := (n : Int)) (by omega) (by omega), w32_id (x := (j : Int)) (by omega) (by omega), if_neg (by omega), f_gR Q1, bsome, l_dk L, bsome, d_f D, bsome, bsome, f_aI Q1 (by omega) (by omega), bsome, f_gR Q2, bsome, f_aI Q2 (by omega) (by omega), bsome, d_ckf D, bsome, b1, b2, x7_dif D.ff hp3 hp, bsome]
      dsimp only
      rw [e2, bsome]
      rfl
  exact key (n + 1) 0 I (by omega) hc.1 (fun k u v => by omega) (fun k u v => hc.2 k (by omega) v) AF.refl
theorem x1_rest17 (L : CL sh x) (hp : Pp p) {q1 q2 : Nat} {a b : Fo} (ha : a.1 ≤ 40) (hab : b.1 ≤ a.1) (hl : b.2 0 % p ≠ 0) (Q1 : FA sh q1) (Q2 : FA sh q2) (hne : q1 ≠ q2) (n1 : q1 ≠ x + 511) (n2 : q2 ≠ x + 511) :
    ∀ (m k : Nat) (c : Int → Int) (I : Nat → Int → Int), a.1 + 1 - k ≤ m → k ≤ a.1 → I (x + 5 + 1) 0 = p → FM I q1 p ((a.1 - k : Nat) : Int) c → FM I q2 p b.1 b.2 →
      (∀ j : Int, 0 ≤ j → j + k ≤ a.1 → c j % p = dvA (ivS p (b.2 0 % p)) b.1 b.2 a.2 (min k (a.1 - b.1 + 1)) (j + k) % p) → (∀ i : Nat, i < k → dvA (ivS p (b.2 0 % p)) b.1 b.2 a.2 (min k (a.1 - b.1 + 1)) i % p = 0) → c 0 % p ≠ 0 →
      (nzI p (dvF p a b).2 (a.1 + 1) = 1 → ∃ I', s_X1_rest_l17 x q1 q2 (ivS p (b.2 0 % p)) (sh, I, J) = some (0, (sh, I', J)) ∧ AF (fun i => aF q1 i ∨ aF (x + 511) i) I I') ∧
      (nzI p (dvF p a b).2 (a.1 + 1) = 0 → ∃ I', s_X1_rest_l17 x q1 q2 (ivS p (b.2 0 % p)) (sh, I, J) = some (1, (sh, I', J)) ∧ FM I' q1 p (stF p (dvF p a b)).1 (stF p (dvF p a b)).2 ∧ AF (fun i => aF q1 i ∨ aF (x + 511) i) I I')
  | 0, k, c, I, h, hk, _, _, _, _, _, _ => by omega
  | m + 1, k, c, I, h, hk, hI, hc, hB, e1, e2, e3 => by
    have D := L.dl
    have hpb := hp.b
    have ap := Q1.ap Q2 hne
    have ap1 := Q1.ap L.ft n1
    have ap2 := Q2.ap L.ft n2
    have nn := D.nf Q1
    have nt := D.nf L.ft
    unfold AP at ap ap1 ap2
    obtain ⟨s, hs⟩ : ∃ s, ivS p (b.2 0 % p) = s := ⟨_, rfl⟩
    have hsb : 0 ≤ s ∧ s < p := by rw [← hs]; exact emod_b hp _
    have hsm : b.2 0 * s % p = 1 % p := by rw [← hs]; exact ivS_lead hp hl
    have hdv : dvF p a b = (a.1, dvA s b.1 b.2 a.2 (a.1 - b.1 + 1)) := by rw [← hs]; rfl
    rw [hs] at e1 e2 ⊢
    rw [hdv]
    dsimp only
    have z9 : ¬ w32 1 = 0 := by decide
    have z0 : w32 0 = 0 := rfl
    have nzc : nzI p c (((a.1 - k : Nat) : Int) + 1).toNat = 0 := by
      rcases (nzI_iff p c (((a.1 - k : Nat) : Int) + 1).toNat).1 with g | g
      · exact g
      · exact absurd ((nzI_iff p c _).2.mp g 0 (by omega) (by omega)) e3
    have eN := x8_isNought (I := I) (J := J) Q1 hp (by omega) hc
    rw [nzc] at eN
    have e17 : s_X1_rest_l17 x q1 q2 s (sh, I, J) = (s_X1_rest_l17_st x q1 q2 s (sh, I, J)).bind fun z => z.elim (fun t => s_X1_rest_l17 x q1 q2 s t) some := by
      unfold s_X1_rest_l17
      rw [whileO_eq]
    rw [e17]
    unfold s_X1_rest_l17_st
    rw [f_gI Q1, bsome, hc.1, f_gI Q2, bsome, hB.1, w32_id (x := ((a.1 - k : Nat) : Int)) (by omega) (by omega), w32_id (x := (b.1 : Int)) (by omega) (by omega)]
    by_cases hlt : a.1 - k < b.1
    · -- the end
      rw [show min k (a.1 - b.1 + 1) = a.1 - b.1 + 1 by omega] at e1 e2
      have lead : dvA s b.1 b.2 a.2 (a.1 - b.1 + 1) k % p ≠ 0 := by
        have := e1 0 (by omega) (by omega)
        rw [Int.zero_add] at this
        rw [← this]
        exact e3
      rw [if_pos (by omega)]
      unfold s_X1_rest_b144
      rw [f_ck Q1, bsome, eN, bsome]
      dsimp only
      rw [if_pos z0]
      refine ⟨fun g => ?_, fun g => ⟨I, rfl, ?_, AF.refl⟩⟩
      · exact absurd ((nzI_iff p _ _).2.mp g k (by omega) (by omega)) lead
      · have hst : stN p (a.1, dvA s b.1 b.2 a.2 (a.1 - b.1 + 1)) = k := ldZ_eq a.1 0 k (by omega) (by omega) (fun j _ g => e2 j g) (fun _ => lead)
        unfold stF
        rw [hst]
        exact hc.congr (fun j u v => e1 j u (by omega))
    · -- one step more
      rw [show min k (a.1 - b.1 + 1) = k by omega] at e1 e2
      have c0 := e1 0 (by omega) (by omega)
      rw [Int.zero_add] at c0
      obtain ⟨I1, r1, r2, r3⟩ := x1_rest60 (J := J) (s := s) (t := c 0 * s) L hI hp (e := a.1 - k) (n := b.1) (by omega) (by omega) Q1 Q2 hne hc hB
      have hI1 : I1 (x + 5 + 1) 0 = p := by rw [r3 (x + 5 + 1) (by omega)]; exact hI
      have hd1 : ∀ j : Int, 0 ≤ j → j + k ≤ a.1 → (c j - c 0 * s * cl b.1 b.2 j) % p = dvA s b.1 b.2 a.2 (k + 1) (j + k) % p := by
        intro j u v
        show _ = (dvA s b.1 b.2 a.2 k (j + k) - dvA s b.1 b.2 a.2 k k * s * cl b.1 b.2 (j + k - k)) % p
        rw [show j + (k : Int) - k = j by omega, Int.sub_emod, e1 j u v, Int.mul_assoc, ← emod_mul_l, c0, emod_mul_l, ← Int.mul_assoc, ← Int.sub_emod]
      have low : ∀ i : Nat, i < k + 1 → dvA s b.1 b.2 a.2 (k + 1) i % p = 0 := fun i hi => dvA_mod hsm (k + 1) i (by omega) (by omega)
      obtain ⟨c', hc'⟩ : ∃ c' : Int → Int, (fun j => c j - c 0 * s * cl b.1 b.2 j) = c' := ⟨_, rfl⟩
      rw [hc'] at r2
      have hd2 : ∀ j : Int, 0 ≤ j → j + k ≤ a.1 → c' j % p = dvA s b.1 b.2 a.2 (k + 1) (j + k) % p := by rw [← hc']; exact hd1
      have eN1 := x8_isNought (I := I1) (J := J) Q1 hp (by omega) r2
      rw [if_neg (by omega), f_ck Q1, bsome, eN, bsome]
      dsimp only
      rw [if_pos z0, l_dk L, bsome, d_f D, bsome, f_gR Q1, bsome, f_aI Q1 (by omega) (by omega), bsome, hc.2 0 (by omega) (by omega), d_ckf D, bsome, show s = s % p from (emod_id p hsb).symm, x7_mul D.ff hI hp, bsome, emod_id p hsb]
      dsimp only
      rw [r1]
      unfold s_X1_rest_b113
      rw [f_ck Q1, bsome, eN1, bsome]
      dsimp only
      rw [show (((a.1 - k : Nat) : Int) + 1).toNat = a.1 - k + 1 by omega]
      rcases (nzI_iff p c' (a.1 - k + 1)).1 with g | g
      · rw [g, if_pos z0]
        have hn : ¬ nz p ((a.1 - k, c') : Fo).1 ((a.1 - k, c') : Fo).2 := nz_not (F := (a.1 - k, c')) g
        obtain ⟨I2, s1, s2, s3⟩ := x1_bares (x := x) (I := I1) (J := J) (F := (a.1 - k, c')) hp (show a.1 - k ≤ 40 by omega) Q1 L.ft n1 hn r2
        obtain ⟨I3, t1, t2, t3⟩ := x8_be (I := I2) (J := J) (p := p) Q1 L.ft (by omega) (show (((stF p (a.1 - k, c')).1 : Nat) : Int) ≤ 40 by have := stN_le p (a.1 - k, c'); unfold stF; dsimp only at *; omega) s2
        obtain ⟨n, hnn⟩ : ∃ n, stN p (a.1 - k, c') = n := ⟨_, rfl⟩
        have hle := stN_le p (a.1 - k, c')
        have hlead := stN_ne hn
        have hz := (ldZ_spec p c' (a.1 - k) 0).1
        have hz : ∀ i : Nat, i < n → c' i % p = 0 := fun i hi => hz i (Nat.zero_le _) (by rw [← hnn] at hi; exact hi)
        have e9 : stF p (a.1 - k, c') = (a.1 - k - n, fun j => c' (j + n)) := by rw [← hnn]; rfl
        rw [hnn] at hle hlead
        dsimp only at hle hlead
        rw [e9] at t2
        dsimp only at t2
        have hn1 : 1 ≤ n := by
          by_cases e : n = 0
          · exfalso
            rw [e] at hlead
            refine hlead ?_
            have := hd2 ((0 : Nat) : Int) (by omega) (by omega)
            rw [this, show ((0 : Nat) : Int) + (k : Int) = k by omega]
            exact low k (by omega)
          · omega
        have up : ∀ j : Int, dvA s b.1 b.2 a.2 (min (k + n) (a.1 - b.1 + 1)) j % p = dvA s b.1 b.2 a.2 (k + 1) j % p := by
          intro j
          have := dvA_skip (p := p) (s := s) (d := b.1) (B := b.2) (A := a.2) (k + 1) (min (k + n) (a.1 - b.1 + 1) - (k + 1)) (fun i u v => by
            have h1 := hz (i - k) (by omega)
            have h2 := hd2 ((i - k : Nat) : Int) (by omega) (by omega)
            rw [h1, show ((i - k : Nat) : Int) + k = i by omega] at h2
            exact h2.symm) j
          rw [show k + 1 + (min (k + n) (a.1 - b.1 + 1) - (k + 1)) = min (k + n) (a.1 - b.1 + 1) by omega] at this
          exact this
        have fr : AF (fun i => aF q1 i ∨ aF (x + 511) i) I I3 := ((r3.mono (fun _ => Or.inl)).trans (s3.mono (fun _ => Or.inr))).trans (t3.mono (fun _ => Or.inl))
        have hB3 := ((hB.keep r3 (by omega) (by omega)).keep s3 (by omega) (by omega)).keep t3 (by omega) (by omega)
        have IH := x1_rest17 L hp ha hab hl Q1 Q2 hne n1 n2 m (k + n) (fun j => c' (j + n)) I3 (by omega) (by omega) (by rw [fr (x + 5 + 1) (by omega)]; exact hI) (by
            rw [show a.1 - (k + n) = a.1 - k - n by omega]
            exact t2) hB3 (fun j u v => by
            rw [hs, up]
            have := hd2 (j + n) (by omega) (by omega)
            rw [this, show j + (n : Int) + k = j + ((k + n : Nat) : Int) by omega]) (fun i hi => by
            rw [hs, up]
            by_cases h5 : i < k
            · exact low i (by omega)
            · have h1 := hz (i - k) (by omega)
              have h2 := hd2 ((i - k : Nat) : Int) (by omega) (by omega)
              rw [h1, show ((i - k : Nat) : Int) + k = i by omega] at h2
              exact h2.symm) (by
            rw [Int.zero_add]
            exact hlead)
        rw [hs, hdv] at IH
        dsimp only at IH
        have run : ((gR (sh, I1, J) 0 x 7).bind fun v27 => (ck (sh, I1, J) 0 x).bind fun _ => (s_X1_bares x q1 v27 (sh, I1, J)).bind fun q28 => (gR q28.2 0 x 7).bind fun v30 => (ck q28.2 6 q1).bind fun _ => (s_X8_be q1 v30 q28.2).bind fun q31 => some ((Sum.inl q31 : Me ⊕ (Int × Me)))) = some (.inl (sh, I3, J)) := by
          rw [l_th L, bsome, l_ck L, bsome, s1, bsome]
          dsimp only
          rw [l_th L, bsome, f_ck Q1, bsome, t1, bsome]
        rw [run]
        refine ⟨fun h => ?_, fun h => ?_⟩
        · obtain ⟨I', u1, u2⟩ := IH.1 h
          exact ⟨I', u1, fr.trans u2⟩
        · obtain ⟨I', u1, u2, u3⟩ := IH.2 h
          exact ⟨I', u1, u2, fr.trans u3⟩
      · rw [g, if_neg z9]
        have all : ∀ i : Nat, i ≤ a.1 → dvA s b.1 b.2 a.2 (k + 1) i % p = 0 := by
          intro i hi
          by_cases h5 : i < k + 1
          · exact low i h5
          · have h1 := (nzI_iff p c' _).2.mp g ((i - k : Nat) : Int) (by omega) (by omega)
            have h2 := hd2 ((i - k : Nat) : Int) (by omega) (by omega)
            rw [h1, show ((i - k : Nat) : Int) + k = i by omega] at h2
            exact h2.symm
        have up := dvA_skip (p := p) (s := s) (d := b.1) (B := b.2) (A := a.2) (k + 1) (a.1 - b.1 + 1 - (k + 1)) (fun i u v => all i (by omega))
        rw [show k + 1 + (a.1 - b.1 + 1 - (k + 1)) = a.1 - b.1 + 1 by omega] at up
        have one : nzI p (dvA s b.1 b.2 a.2 (a.1 - b.1 + 1)) (a.1 + 1) = 1 := (nzI_iff p _ _).2.mpr (fun j u v => by
          rw [up, ← Int.toNat_of_nonneg u]
          exact all j.toNat (by omega))
        refine ⟨fun _ => ⟨I1, rfl, r3.mono (fun _ => Or.inl)⟩, fun h => ?_⟩
        rw [one] at h
        exact absurd h (by decide)
end CX1
