/-! the component: quotients -/
set_option maxRecDepth 100000
/-- what is left behind so many steps of the component's division -/
def cqL (p : Int) (F G : Fo) (i : Nat) : Int → Int := fun k => if k < stN p G then F.2 k else dvA (ivS p (G.2 (stN p G) % p)) (stF p G).1 (stF p G).2 (fun j => F.2 (j + stN p G)) i (k - stN p G)
def cqQ (p : Int) (F G : Fo) : Int → Int := fun k => dvA (ivS p (G.2 (stN p G) % p)) (stF p G).1 (stF p G).2 (fun j => F.2 (j + stN p G)) k.toNat k * ivS p (G.2 (stN p G) % p)
theorem tellP_congr {d p k : Int} {c c' : Int → Int} (h : ∀ j, 0 ≤ j → j ≤ d → c j % p = c' j % p) : tellP d c p k = tellP d c' p k := by
  unfold tellP
  by_cases h1 : k = -1
  · rw [if_pos h1, if_pos h1]
  · rw [if_neg h1, if_neg h1]
    by_cases h2 : 0 ≤ k ∧ k ≤ d
    · rw [if_pos h2, if_pos h2, h k h2.1 h2.2]
    · rw [if_neg h2, if_neg h2]
theorem sub_mul_mod {p a b c d e : Int} (h1 : a % p = b % p) (h2 : c % p = d % p) : (a - c * e) % p = (b - d * e) % p := by
  rw [Int.sub_emod, h1, ← emod_mul_l c e p, h2, emod_mul_l, ← Int.sub_emod]
/-- what divides, shifted: the steps behind the noughts ahead -/
theorem dvA_shift {p s : Int} {d : Nat} {B A F : Int → Int} {y : Nat} (h : ∀ j, dvA s d B A y (j + y) % p = F j % p) : ∀ (n : Nat) (j : Int), dvA s d B A (y + n) (j + y) % p = dvA s d B F n j % p
  | 0, j => h j
  | n + 1, j => by
    show (dvA s d B A (y + n) (j + y) - dvA s d B A (y + n) ((y + n : Nat) : Int) * s * cl d B (j + y - ((y + n : Nat) : Int))) % p = (dvA s d B F n j - dvA s d B F n n * s * cl d B (j - n)) % p
    have h1 := dvA_shift h n n
    rw [show ((n : Nat) : Int) + (y : Int) = ((y + n : Nat) : Int) by omega] at h1
    rw [show j + (y : Int) - ((y + n : Nat) : Int) = j - n by omega]
    exact sub_mul_mod (dvA_shift h n j) (by rw [← emod_mul_l, h1, emod_mul_l])
theorem dvA_low {p s : Int} {d : Nat} {B A : Int → Int} {y : Nat} (n : Nat) (j : Int) (h : j < y) : dvA s d B A (y + n) j = dvA s d B A y j := by
  induction n with
  | zero => rfl
  | succ n ih =>
    show dvA s d B A (y + n) j - dvA s d B A (y + n) ((y + n : Nat) : Int) * s * cl d B (j - ((y + n : Nat) : Int)) = _
    rw [show cl (d : Int) B (j - ((y + n : Nat) : Int)) = 0 from if_neg (by omega), Int.mul_zero, Int.sub_zero, ih]
/-- the component's division is the twin's -/
theorem cq_eq {p : Int} {F G : Fo} (hFG : G.1 ≤ F.1) (nG : ¬ nz p G.1 G.2) (k : Int) :
    (if nzI p (cqL p F G (F.1 - G.1 + 1)) (F.1 + 1) = 0 then -2 else tellP ((F.1 - G.1 : Nat) : Int) (cqQ p F G) p k) = vlP p k (qtP p F G) := by
  have lG := stF_lead nG
  have eG : (stF p G).2 0 = G.2 (stN p G) := by
    show G.2 (0 + (stN p G : Int)) = _
    rw [Int.zero_add]
  have ng := stN_le p G
  have sG : (stF p G).1 = G.1 - stN p G := rfl
  have nG1 : ¬ nzI p G.2 (G.1 + 1) = 1 := fun h => nG (nz_yes h)
  unfold qtP
  rw [if_neg (show ¬(nzI p G.2 (G.1 + 1) = 1 ∨ F.1 < G.1) by omega)]
  unfold cqL cqQ
  obtain ⟨g, hg⟩ : ∃ g, stN p G = g := ⟨_, rfl⟩
  obtain ⟨s, hs⟩ : ∃ s, ivS p (G.2 g % p) = s := ⟨_, rfl⟩
  obtain ⟨A, hA⟩ : ∃ A : Int → Int, (fun j => F.2 (j + g)) = A := ⟨_, rfl⟩
  have eA : ∀ j, A j = F.2 (j + g) := fun j => by rw [← hA]
  obtain ⟨E, hE⟩ : ∃ E, (stF p G).1 = E := ⟨_, rfl⟩
  obtain ⟨B, hB⟩ : ∃ B, (stF p G).2 = B := ⟨_, rfl⟩
  have dvQ_e : ∀ a : Fo, dvQ p a (stF p G) = fun k => dvA s E B a.2 k.toNat k * s := by
    intro a
    unfold dvQ
    rw [eG, hg, hs, hE, hB]
  have dvF_e : ∀ a : Fo, dvF p a (stF p G) = (a.1, dvA s E B a.2 (a.1 - E + 1)) := by
    intro a
    unfold dvF
    rw [eG, hg, hs, hE, hB]
  rw [hg] at ng sG ⊢
  rw [hs, hA, dvQ_e, dvF_e, hE, hB]
  rw [hE] at sG
  dsimp only
  rcases (nzI_iff p F.2 (F.1 + 1)).1 with n1 | n1
  · -- not nought
    have nF := nz_not n1
    have lF := stN_ne nF
    have nf := stN_le p F
    obtain ⟨z1, -⟩ := ldZ_spec p F.2 F.1 0
    obtain ⟨f0, hf0⟩ : ∃ f0, stN p F = f0 := ⟨_, rfl⟩
    have z1 : ∀ i : Nat, i < f0 → F.2 i % p = 0 := fun i hi => z1 i (Nat.zero_le _) (by
      have : ldZ p F.2 F.1 0 = f0 := hf0
      omega)
    have sF : stF p F = (F.1 - f0, fun k => F.2 (k + f0)) := by rw [← hf0]; rfl
    rw [hf0] at lF nf
    rw [if_neg (show ¬ nzI p F.2 (F.1 + 1) = 1 by omega), hf0, sF]
    dsimp only
    by_cases c1 : f0 < g
    · rw [if_pos (Or.inl c1), if_pos]
      · rfl
      · rcases (nzI_iff p (fun k : Int => if k < g then F.2 k else dvA s E B A (F.1 - G.1 + 1) (k - g)) (F.1 + 1)).1 with h | h
        · exact h
        · have := (nzI_iff p (fun k : Int => if k < g then F.2 k else dvA s E B A (F.1 - G.1 + 1) (k - g)) (F.1 + 1)).2.mp h f0 (by omega) (by omega)
          rw [if_pos (by omega)] at this
          exact absurd this lF
    -- noughts ahead of A
    obtain ⟨y, hy⟩ : ∃ y : Nat, f0 - g = y := ⟨_, rfl⟩
    have zA : ∀ i : Nat, i < y → A i % p = 0 := by
      intro i hi
      have := z1 (i + g) (by omega)
      rw [eA, show (i : Int) + g = ((i + g : Nat) : Int) by omega]
      exact this
    have sk : ∀ n : Nat, n ≤ y → ∀ j : Int, dvA s E B A n j % p = A j % p := by
      intro n hn j
      have := dvA_skip (p := p) (s := s) (d := E) (B := B) (A := A) 0 n (fun i _ hi => zA i (by omega)) j
      rw [Nat.zero_add] at this
      exact this
    by_cases c2 : F.1 - f0 < E
    · rw [if_pos (Or.inr c2), if_pos]
      · rfl
      · rcases (nzI_iff p (fun k : Int => if k < g then F.2 k else dvA s E B A (F.1 - G.1 + 1) (k - g)) (F.1 + 1)).1 with h | h
        · exact h
        · have := (nzI_iff p (fun k : Int => if k < g then F.2 k else dvA s E B A (F.1 - G.1 + 1) (k - g)) (F.1 + 1)).2.mp h f0 (by omega) (by omega)
          rw [if_neg (by omega), sk _ (by omega), eA, show (f0 : Int) - g + g = f0 by omega] at this
          exact absurd this lF
    rw [if_neg (show ¬(f0 < g ∨ F.1 - f0 < E) by omega)]
    have sh1 := dvA_shift (p := p) (s := s) (d := E) (B := B) (A := A) (F := fun k => F.2 (k + f0)) (y := y) (fun j => by
      rw [sk y (Nat.le_refl _), eA, show j + (y : Int) + g = j + f0 by omega])
    have steps : F.1 - G.1 + 1 = y + (F.1 - f0 - E + 1) := by omega
    have iff1 : nzI p (fun k : Int => if k < g then F.2 k else dvA s E B A (F.1 - G.1 + 1) (k - g)) (F.1 + 1) = 1 ↔ nzI p (dvA s E B (fun k => F.2 (k + f0)) (F.1 - f0 - E + 1)) (F.1 - f0 + 1) = 1 := by
      rw [(nzI_iff p _ _).2, (nzI_iff p _ _).2]
      constructor
      · intro h k u v
        have := h (k + f0) (by omega) (by omega)
        rw [if_neg (by omega), steps, show k + (f0 : Int) - g = k + y by omega, sh1] at this
        exact this
      · intro h k u v
        by_cases c3 : k < g
        · rw [if_pos c3]
          have := z1 k.toNat (by omega)
          rw [Int.toNat_of_nonneg u] at this
          exact this
        · rw [if_neg c3, steps]
          by_cases c4 : k - g < y
          · rw [dvA_low (p := p) _ _ c4, sk y (Nat.le_refl _)]
            have := zA (k - g).toNat (by omega)
            rw [Int.toNat_of_nonneg (by omega)] at this
            exact this
          · have := h (k - f0) (by omega) (by omega)
            rw [show k - (g : Int) = k - f0 + y by omega, sh1]
            exact this
    have b1 := (nzI_iff p (dvA s E B (fun k => F.2 (k + f0)) (F.1 - f0 - E + 1)) (F.1 - f0 + 1)).1
    rcases (nzI_iff p (fun k : Int => if k < g then F.2 k else dvA s E B A (F.1 - G.1 + 1) (k - g)) (F.1 + 1)).1 with h | h
    · rw [h, if_pos rfl, if_neg (fun e => by have := iff1.mpr e; omega)]
      rfl
    · rw [h, if_neg (by decide), if_pos (iff1.mp h)]
      show _ = tellP ((F.1 - G.1 : Nat) : Int) (fun k => cl ((F.1 - f0 - E : Nat) : Int) (fun k => dvA s E B (fun k => F.2 (k + f0)) k.toNat k * s) (k - ((f0 - g : Nat) : Int))) p k
      refine tellP_congr (fun j u v => ?_)
      rw [hy]
      by_cases c3 : j < y
      · rw [show cl ((F.1 - f0 - E : Nat) : Int) (fun k => dvA s E B (fun k => F.2 (k + f0)) k.toNat k * s) (j - (y : Int)) = 0 from if_neg (by omega), ← emod_mul_l, sk _ (by omega)]
        have := zA j.toNat (by omega)
        rw [Int.toNat_of_nonneg u] at this
        rw [this, Int.zero_mul]
      · rw [cl_in (by omega) (by omega)]
        have := sh1 (j - y).toNat (j - y)
        rw [show y + (j - (y : Int)).toNat = j.toNat by omega, show j - (y : Int) + y = j by omega] at this
        rw [← emod_mul_l, this, emod_mul_l]
  · -- nought
    have z : ∀ i : Nat, i ≤ F.1 → F.2 i % p = 0 := fun i hi => (nzI_iff p F.2 (F.1 + 1)).2.mp n1 i (by omega) (by omega)
    have zA : ∀ i : Nat, i + g ≤ F.1 → A i % p = 0 := by
      intro i hi
      rw [eA, show (i : Int) + g = ((i + g : Nat) : Int) by omega]
      exact z _ hi
    have sk : ∀ n : Nat, n + g ≤ F.1 + 1 → ∀ j : Int, dvA s E B A n j % p = A j % p := by
      intro n hn j
      have := dvA_skip (p := p) (s := s) (d := E) (B := B) (A := A) 0 n (fun i _ hi => zA i (by omega)) j
      rw [Nat.zero_add] at this
      exact this
    rw [if_pos n1, if_neg]
    · show _ = tellP ((F.1 - G.1 : Nat) : Int) (fun _ => 0) p k
      refine tellP_congr (fun j u v => ?_)
      rw [← emod_mul_l, sk _ (by omega)]
      have := zA j.toNat (by omega)
      rw [Int.toNat_of_nonneg u] at this
      rw [this, Int.zero_mul]
    · intro h
      have h1 : nzI p (fun k : Int => if k < g then F.2 k else dvA s E B A (F.1 - G.1 + 1) (k - g)) (F.1 + 1) = 1 := (nzI_iff p _ _).2.mpr (fun k u v => by
        by_cases c3 : k < g
        · rw [if_pos c3]
          have := z k.toNat (by omega)
          rw [Int.toNat_of_nonneg u] at this
          exact this
        · rw [if_neg c3, sk _ (by omega)]
          have := zA (k - g).toNat (by omega)
          rw [Int.toNat_of_nonneg (by omega)] at this
          exact this)
      rw [h] at h1
      exact absurd h1 (by decide)
section CX3
variable {sh : Sh} {I J : Nat → Int → Int} {x : Nat} {p : Int} {W : Int → Int}
/-- one step's row -/
theorem x1_q152 (L : CL sh x) (hI : I (x + 5 + 1) 0 = p) (hp : Pp p) {q : Nat} {F G : Fo} {i : Nat} {t z d a b : Int} {c : Int → Int} (hF : F.1 ≤ 40) (hi : i + G.1 ≤ F.1) (Q : FA sh q) (n1 : q ≠ x + 550) (n2 : q ≠ x + 552) (hc : FM I (x + 550) p F.1 c) (hG : FM I q p G.1 G.2) (ht : I (x + 552 + 1) i = t % p) :
    ∃ I', s_X1_quotient_l152 x z q d a b (x + 550) (x + 552) i 0 (sh, I, J) = some (.inl ((i : Int) + 1, (sh, I', J))) ∧ FM I' (x + 550) p F.1 (fun k => c k - t * cl G.1 G.2 (k - i)) ∧ AF (aF (x + 550)) I I' := by
  have D := L.dl
  have S0 : FA sh (x + 550) := L.cv.fs (k := 0) (by omega)
  have S1 : FA sh (x + 552) := L.cv.fs (k := 1) (by omega)
  have ap := Q.ap S0 n1
  have ap1 := Q.ap S1 n2
  have nn := D.nf Q
  unfold AP at ap ap1
  unfold s_X1_quotient_l152
  refine ex_g (fun I' => Sum.inl ((i : Int) + 1, ((sh, I', J) : Me))) (whileO_for (G.1 + 1)
    (fun j s => ∃ I', s = ((j : Int), ((sh, I', J) : Me)) ∧ I' (x + 550) 1 = F.1 ∧ (∀ k : Int, 0 ≤ k → k ≤ F.1 → k < i + j → I' (x + 550 + 1) k = (c k - t * cl G.1 G.2 (k - i)) % p) ∧ (∀ k : Int, 0 ≤ k → k ≤ F.1 → i + j ≤ k → I' (x + 550 + 1) k = c k % p) ∧ AF (aF (x + 550)) I I')
    _ ?_ ?_ _ ?_)
  · rintro j s hj ⟨I3, rfl, b1, b2, b3, b4⟩
    have hG3 := hG.keep b4 (by omega) (by omega)
    have c1 := b3 ((i : Int) + j) (by omega) (by omega) (by omega)
    have c2 := hG3.2 j (by omega) (by omega)
    have c3 : I3 (x + 552 + 1) i = t % p := by rw [b4 _ (by omega)]; exact ht
    have hp3 : I3 (x + 5 + 1) 0 = p := by rw [b4 _ (by omega)]; exact hI
    obtain ⟨I4, e2, k1, k2, k3, k4⟩ := f_put (I := I3) (J := J) S0 (k := (i : Int) + j) (v := (c ((i : Int) + j) - t * G.2 j) % p) (by omega) (by omega)
    refine ⟨((j : Int) + 1, (sh, I4, J)), ?_, I4, by simp, by rw [k2]; exact b1, fun k u v w => ?_, fun k u v w => ?_, b4.trans k4⟩
    · unfold s_X1_quotient_l152_st
      dsimp only
      rw [f_gI Q, bsome, hG3.1, w32_id (x := (G.1 : Int)) (by omega) (by omega), w32_id (x := (j : Int)) (by omega) (by omega), if_neg (by omega), f_gR S0, bsome, l_dk L, bsome, d_f D, bsome, bsome, f_aI S0 (by omega) (by omega), bsome, f_gR S1, bsome, f_aI S1 (by omega) (by omega), bsome, f_gR Q, bsome, f_aI Q (by omega) (by omega), bsome, d_ckf D, bsome, c1, c2, c3, x7_dif D.ff hp3 hp, bsome]
      dsimp only
      rw [e2, bsome]
    · by_cases e : k = i + j
      · rw [e, k1, show (i : Int) + j - i = j by omega, cl_in (by omega) (by omega)]
      · rw [k3 _ e]
        exact b2 k u v (by omega)
    · rw [k3 _ (by omega)]
      exact b3 k u v (by omega)
  · rintro s ⟨I3, rfl, b1, b2, b3, b4⟩
    have hG3 := hG.keep b4 (by omega) (by omega)
    unfold s_X1_quotient_l152_st
    dsimp only
    rw [f_gI Q, bsome, hG3.1, w32_id (x := (G.1 : Int)) (by omega) (by omega), w32_id (by omega) (by omega), if_pos (by omega)]
    refine ⟨_, rfl, I3, rfl, ⟨b1, fun k u v => ?_⟩, b4⟩
    by_cases h : k < (i : Int) + ((G.1 + 1 : Nat) : Int)
    · exact b2 k u v h
    · rw [b3 k u v (by omega)]
      dsimp only
      rw [show cl (G.1 : Int) G.2 (k - i) = 0 from if_neg (by omega), Int.mul_zero, Int.sub_zero]
  · exact ⟨I, rfl, hc.1, fun k u v w => by
      rw [show cl (G.1 : Int) G.2 (k - i) = 0 from if_neg (by omega), Int.mul_zero, Int.sub_zero]
      exact hc.2 k u v, fun k u v _ => hc.2 k u v, AF.refl⟩
theorem cq_step {p : Int} {F G : Fo} {i : Nat} (hi : i + G.1 ≤ F.1) (k : Int) (u : 0 ≤ k) (v : k ≤ F.1) : (cqL p F G i k - cqQ p F G i * cl G.1 G.2 (k - i)) % p = cqL p F G (i + 1) k % p := by
  have ng := stN_le p G
  obtain ⟨z1, -⟩ := ldZ_spec p G.2 G.1 0
  have sG : stF p G = (G.1 - stN p G, fun k => G.2 (k + stN p G)) := rfl
  obtain ⟨g, hg⟩ : ∃ g, stN p G = g := ⟨_, rfl⟩
  have z1 : ∀ i : Nat, i < g → G.2 i % p = 0 := fun i hi => z1 i (Nat.zero_le _) (by
    have : ldZ p G.2 G.1 0 = g := hg
    omega)
  unfold cqL cqQ
  rw [hg] at ng sG ⊢
  obtain ⟨s, hs⟩ : ∃ s, ivS p (G.2 g % p) = s := ⟨_, rfl⟩
  obtain ⟨A, hA⟩ : ∃ A : Int → Int, (fun j => F.2 (j + g)) = A := ⟨_, rfl⟩
  rw [hs, hA, sG]
  dsimp only
  rw [Int.toNat_natCast]
  by_cases c1 : k < g
  · rw [if_pos c1, if_pos c1]
    have : cl (G.1 : Int) G.2 (k - i) % p = 0 := by
      by_cases c2 : 0 ≤ k - i ∧ k - i ≤ G.1
      · rw [cl_in c2.1 c2.2]
        have := z1 (k - i).toNat (by omega)
        rw [Int.toNat_of_nonneg c2.1] at this
        exact this
      · rw [show cl (G.1 : Int) G.2 (k - i) = 0 from if_neg c2]
        rfl
    rw [Int.sub_emod, ← emod_mul_r, this, Int.mul_zero, Int.zero_emod, Int.sub_zero, emod_emod_]
  · rw [if_neg c1, if_neg c1]
    show _ = (dvA s (G.1 - g) (fun k => G.2 (k + g)) A i (k - g) - dvA s (G.1 - g) (fun k => G.2 (k + g)) A i i * s * cl ((G.1 - g : Nat) : Int) (fun k => G.2 (k + g)) (k - g - i)) % p
    have : cl (G.1 : Int) G.2 (k - i) % p = cl ((G.1 - g : Nat) : Int) (fun k => G.2 (k + g)) (k - g - i) % p := by
      by_cases c2 : 0 ≤ k - i ∧ k - i ≤ G.1
      · rw [cl_in c2.1 c2.2]
        by_cases c3 : k - i < g
        · rw [show cl ((G.1 - g : Nat) : Int) (fun k => G.2 (k + g)) (k - g - i) = 0 from if_neg (by omega)]
          have := z1 (k - i).toNat (by omega)
          rw [Int.toNat_of_nonneg c2.1] at this
          rw [this]
          rfl
        · rw [cl_in (by omega) (by omega), show k - g - (i : Int) + g = k - i by omega]
      · rw [show cl (G.1 : Int) G.2 (k - i) = 0 from if_neg c2, show cl ((G.1 - g : Nat) : Int) (fun k => G.2 (k + g)) (k - g - i) = 0 from if_neg (by omega)]
    rw [Int.sub_emod, ← emod_mul_r, this, emod_mul_r, ← Int.sub_emod]
theorem x_quotient (L : CL sh x) (R : Room sh) (hS : SR sh I (x + 16) W) (hI : I (x + 5 + 1) 0 = W 0) (hW : WI W) {f g k : Int} (hf : i32 f) (hg : i32 g) (hk : i32 k) :
    ((0 ≤ f ∧ f < W 1) → (0 ≤ g ∧ g < W 1) → CG (s_X1_quotient x f g k (sh, I, J)) sh I J x (vlP (W 0) k (qtP (W 0) (fF W f) (fF W g)))) ∧
    (¬((0 ≤ f ∧ f < W 1) ∧ (0 ≤ g ∧ g < W 1)) → CB (s_X1_quotient x f g k (sh, I, J)) sh I J 3) := by
  have hc1 := hW.c1
  have hp := hW.pp
  have D := L.dl
  have z0 : w32 0 = 0 := rfl
  have z1 : ¬ w32 1 = 0 := by decide
  obtain ⟨y1, y2⟩ := x1_formAt (J := J) L R (n := W 1) hS.1.1.2.1 (by omega) hf
  obtain ⟨w1, w2⟩ := x1_formAt (J := J) L R (n := W 1) hS.1.1.2.1 (by omega) hg
  unfold s_X1_quotient
  rw [l_ck L, bsome]
  refine ⟨fun h1 h2 => ?_, fun h => ?_⟩
  · obtain ⟨f1, f2⟩ := hS.ff hW h1.1 h1.2
    obtain ⟨g1, g2⟩ := hS.ff hW h2.1 h2.2
    have Q1 := L.q (k := f) (by omega)
    have Q2 := L.q (k := g) (by omega)
    have hb1 : x + 16 ≤ x + 16 + 13 + 2 * f.toNat ∧ x + 16 + 13 + 2 * f.toNat ≤ x + 505 := by omega
    have hb2 : x + 16 ≤ x + 16 + 13 + 2 * g.toNat ∧ x + 16 + 13 + 2 * g.toNat ≤ x + 505 := by omega
    rw [y1 h1, xb_r, l_ck L, bsome, w1 h2, xb_r]
    obtain ⟨q1, hq1⟩ : ∃ q, x + 16 + 13 + 2 * f.toNat = q := ⟨_, rfl⟩
    obtain ⟨q2, hq2⟩ : ∃ q, x + 16 + 13 + 2 * g.toNat = q := ⟨_, rfl⟩
    obtain ⟨F, hF⟩ : ∃ F, fF W f = F := ⟨_, rfl⟩
    obtain ⟨G, hG⟩ : ∃ G, fF W g = G := ⟨_, rfl⟩
    rw [hq1] at f1 Q1 hb1 ⊢
    rw [hq2] at g1 Q2 hb2 ⊢
    rw [hF] at f1 f2 ⊢
    rw [hG] at g1 g2 ⊢
    have e6 := x8_isNought (J := J) Q2 hp (by omega) g1
    rw [show ((G.1 : Int) + 1).toNat = G.1 + 1 by omega] at e6
    dsimp only
    rw [f_gI Q1, bsome, f1.1, f_gI Q2, bsome, g1.1, w32_id (x := (F.1 : Int) - G.1) (by omega) (by omega)]
    by_cases hlt : F.1 < G.1
    · rw [if_pos (by omega)]
      unfold qtP
      rw [if_pos (Or.inr hlt)]
      exact CG.of rfl
    rw [if_neg (by omega), f_ck Q2, bsome, e6, bsome]
    dsimp only
    rcases (nzI_iff (W 0) G.2 (G.1 + 1)).1 with n2 | n2
    · have nG := nz_not n2
      have ng := stN_le (W 0) G
      rw [n2, if_pos z0, l_th L, bsome, l_ck L, bsome]
      obtain ⟨I1, e1, r1, k1⟩ := x1_bares (x := x) (I := I) (J := J) hp (show G.1 ≤ 40 by omega) Q2 L.ft (by omega) nG g1
      have c0 : ∀ I' : Nat → Int → Int, aR (sh, I', J) 104 (x + 506) 0 = some (x + 550) := fun I' => c_shelf (I := I') (J := J) L.cv (k := 0) (by omega)
      have c1 : ∀ I' : Nat → Int → Int, aR (sh, I', J) 104 (x + 506) 1 = some (x + 552) := fun I' => c_shelf (I := I') (J := J) L.cv (k := 1) (by omega)
      have S0 : FA sh (x + 550) := L.cv.fs (k := 0) (by omega)
      have S1 : FA sh (x + 552) := L.cv.fs (k := 1) (by omega)
      have g1' := g1.keep k1 (by omega) (by omega)
      have f1' := f1.keep k1 (by omega) (by omega)
      have hI1 : I1 (x + 5 + 1) 0 = W 0 := by rw [k1 _ (by omega)]; exact hI
      have o0 := g1'.2 (stN (W 0) G) (by omega) (by omega)
      have e4 := x7_inverse (J := J) D.ff hI1 hp (G.2 (stN (W 0) G))
      obtain ⟨I2, e2, r2, k2⟩ := x8_be (I := I1) (J := J) S0 Q1 (by omega) (by omega) f1'
      have g2' := g1'.keep k2 (by omega) (by omega)
      obtain ⟨I3, e3, r3, -, k3⟩ := x8_nought (I := I2) (J := J) S1 (W 0) (d := (F.1 : Int) - G.1) (by omega)
      have r2' := r2.keep k3 (by omega) (by omega)
      have g3' := g2'.keep k3 (by omega) (by omega)
      have hI3 : I3 (x + 5 + 1) 0 = W 0 := by rw [k3 _ (by omega), k2 _ (by omega)]; exact hI1
      have fr : AF (xS x) I I3 := ((k1.mono (fun i hi => by unfold xS; omega)).trans (k2.mono (fun i hi => by unfold xS; omega))).trans (k3.mono (fun i hi => by unfold xS; omega))
      rw [e1, bsome]
      dsimp only
      rw [l_dk L, bsome, d_f D, bsome, f_gR Q2, bsome, f_aI Q2 (by omega) (by omega), bsome, o0, d_ckf D, bsome, e4, bsome]
      dsimp only
      rw [l_sv L, bsome, c0, bsome, bsome, c1, bsome, f_ck S0, bsome, e2, bsome, f_ck S1, bsome, e3, bsome]
      obtain ⟨s, hs⟩ : ∃ s, ivS (W 0) (G.2 (stN (W 0) G) % W 0) = s := ⟨_, rfl⟩
      have hsm : s % W 0 = s := by rw [← hs]; exact ivS_m _
      have cqE : ∀ i : Nat, i + G.1 ≤ F.1 → cqQ (W 0) F G i % W 0 = cqL (W 0) F G i (i + stN (W 0) G) * s % W 0 := by
        intro i hi
        unfold cqQ cqL
        rw [if_neg (by omega), hs, Int.toNat_natCast, show (i : Int) + (stN (W 0) G : Int) - stN (W 0) G = i by omega]
      rw [hs]
      have key : ∃ I', s_X1_quotient_l108 x k q2 ((F.1 : Int) - G.1) (stN (W 0) G) s (x + 550) (x + 552) 0 (sh, I3, J) = some (.inr (vlP (W 0) k (qtP (W 0) F G), (sh, I', J))) ∧ AF (xS x) I3 I' := by
        unfold s_X1_quotient_l108
        refine ex_g (fun I' => Sum.inr (vlP (W 0) k (qtP (W 0) F G), ((sh, I', J) : Me))) (whileO_for (F.1 - G.1 + 1)
          (fun i z => ∃ I', z = ((i : Int), ((sh, I', J) : Me)) ∧ FM I' (x + 550) (W 0) F.1 (cqL (W 0) F G i) ∧ I' (x + 552) 1 = (F.1 : Int) - G.1 ∧ (∀ j : Int, 0 ≤ j → j < i → I' (x + 552 + 1) j = cqQ (W 0) F G j % W 0) ∧ AF (fun a => aF (x + 550) a ∨ aF (x + 552) a) I3 I')
          _ ?_ ?_ _ ?_)
        · rintro i z hi ⟨I4, rfl, a1, a2, a3, a4⟩
          have hI4 : I4 (x + 5 + 1) 0 = W 0 := by rw [a4 _ (by omega)]; exact hI3
          have b1 := a1.2 ((i : Int) + stN (W 0) G) (by omega) (by omega)
          have e5 := x7_mul (J := J) D.ff hI4 hp (cqL (W 0) F G i (i + stN (W 0) G)) s
          rw [hsm, ← cqE i (by omega)] at e5
          obtain ⟨I5, e7, k5, k6, k7, k8⟩ := f_put (I := I4) (J := J) S1 (k := (i : Int)) (v := cqQ (W 0) F G i % W 0) (by omega) (by omega)
          have a1' := a1.keep k8 (by omega) (by omega)
          have gI5 := (g3'.keep a4 (by omega) (by omega)).keep k8 (by omega) (by omega)
          obtain ⟨I6, e8, r8, f8⟩ := x1_q152 (J := J) (t := cqQ (W 0) F G i) (z := k) (d := (F.1 : Int) - G.1) (a := stN (W 0) G) (b := s) L (by rw [k8 _ (by omega)]; exact hI4) hp (F := F) (G := G) (i := i) (by omega) (by omega) Q2 (by omega) (by omega) a1' gI5 k5
          refine ⟨((i : Int) + 1, (sh, I6, J)), ?_, I6, by simp, r8.congr (fun k u v => cq_step (by omega) k u v), ?_, fun j u v => ?_, (a4.trans (k8.mono (fun a ha => Or.inr ha))).trans (f8.mono (fun a ha => Or.inl ha))⟩
          · unfold s_X1_quotient_l108_st
            dsimp only
            rw [w32_id (x := (F.1 : Int) - G.1) (by omega) (by omega), w32_id (x := (i : Int)) (by omega) (by omega), if_neg (by omega), f_gR S1, bsome, l_dk L, bsome, d_f D, bsome, f_gR S0, bsome, f_aI S0 (by omega) (by omega), bsome, b1, d_ckf D, bsome, e5, bsome]
            dsimp only
            rw [e7, bsome, e8]
          · rw [f8 _ (by omega), k6]
            exact a2
          · rw [f8 _ (by omega)]
            by_cases e : j = i
            · rw [e, k5]
            · rw [k7 _ e]
              exact a3 j u (by omega)
        · rintro z ⟨I4, rfl, a1, a2, a3, a4⟩
          have e9 := x8_isNought (J := J) S0 hp (by omega) a1
          rw [show ((F.1 : Int) + 1).toNat = F.1 + 1 by omega] at e9
          have cq := cq_eq (p := W 0) (F := F) (G := G) (by omega) nG k
          have a4' : AF (xS x) I3 I4 := a4.mono (fun i hi => by unfold xS; omega)
          unfold s_X1_quotient_l108_st s_X1_quotient_b227
          dsimp only
          rw [w32_id (x := (F.1 : Int) - G.1) (by omega) (by omega), w32_id (by omega) (by omega), if_pos (by omega), f_ck S0, bsome, e9, bsome]
          dsimp only
          rcases (nzI_iff (W 0) (cqL (W 0) F G (F.1 - G.1 + 1)) (F.1 + 1)).1 with n3 | n3
          · rw [n3, if_pos rfl] at cq
            rw [n3, if_pos z0, ← cq]
            exact ⟨_, rfl, I4, rfl, a4'⟩
          · rw [n3, if_neg (by decide)] at cq
            have r9 : FM I4 (x + 552) (W 0) ((F.1 - G.1 : Nat) : Int) (cqQ (W 0) F G) := ⟨by rw [a2]; omega, fun j u v => a3 j u (by omega)⟩
            rw [n3, if_neg z1, x1_tells S1 (by omega) hk r9, bsome, cq]
            exact ⟨_, rfl, I4, rfl, a4'⟩
        · refine ⟨I3, rfl, r2'.congr (fun j u v => ?_), r3.1, fun j u v => by omega, AF.refl⟩
          unfold cqL
          by_cases c : j < (stN (W 0) G : Int)
          · rw [if_pos c]
          · rw [if_neg c]
            show _ = F.2 (j - (stN (W 0) G : Int) + stN (W 0) G) % W 0
            rw [show j - (stN (W 0) G : Int) + stN (W 0) G = j by omega]
      obtain ⟨I4, k4, k5⟩ := key
      exact ⟨I4, k4, fr.trans k5⟩
    · rw [n2, if_neg z1]
      unfold qtP
      rw [if_pos (Or.inl n2)]
      exact CG.of rfl
  · unfold CB
    by_cases g1 : 0 ≤ f ∧ f < W 1
    · have := w2 (fun e => h ⟨g1, e⟩)
      unfold CB at this
      rw [y1 g1, xb_r, l_ck L, bsome, this, xb_l]
    · have := y2 g1
      unfold CB at this
      rw [this, xb_l]
end CX3
