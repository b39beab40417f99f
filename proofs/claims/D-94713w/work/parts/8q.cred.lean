/-! the component: whole forms are reduced -/
set_option maxRecDepth 100000
/-- what whole forms leave: of the ints only the number of changes, of the longs only whole and leads -/
def XF (x : Nat) (I I' : Nat → Int → Int) : Prop := (∀ a : Nat, a ≠ x → I' a = I a) ∧ ∀ k : Int, k ≠ 17 → I' x k = I x k
def JF (x : Nat) (J J' : Nat → Int → Int) : Prop := ∀ a : Nat, a ≠ x + 547 → a ≠ x + 548 → J' a = J a
theorem XF.refl {x : Nat} {I : Nat → Int → Int} : XF x I I := ⟨fun _ _ => rfl, fun _ _ => rfl⟩
theorem XF.trans {x : Nat} {I I' I2 : Nat → Int → Int} (h : XF x I I') (g : XF x I' I2) : XF x I I2 := ⟨fun a u => (g.1 a u).trans (h.1 a u), fun k u => (g.2 k u).trans (h.2 k u)⟩
theorem XF.put {x : Nat} {I : Nat → Int → Int} {v : Int} : XF x I (up1 I x (upz (I x) 17 v)) := ⟨fun a u => up1_n _ _ u, fun k u => by rw [up1_s, upz_n _ _ u]⟩
theorem JF.refl {x : Nat} {J : Nat → Int → Int} : JF x J J := fun _ _ _ => rfl
theorem JF.trans {x : Nat} {J J' J2 : Nat → Int → Int} (h : JF x J J') (g : JF x J' J2) : JF x J J2 := fun a u v => (g a u v).trans (h a u v)
theorem JF.w {x : Nat} {J : Nat → Int → Int} {f : Int → Int} : JF x J (up1 J (x + 547) f) := fun a u v => up1_n _ _ u
theorem JF.l {x : Nat} {J : Nat → Int → Int} {f : Int → Int} : JF x J (up1 J (x + 548) f) := fun a u v => up1_n _ _ v
def CJ (y : Option (Ex ⊕ (Int × Me))) (sh : Sh) (I J : Nat → Int → Int) (x : Nat) (r : Int) : Prop := ∃ I' J', y = some (.inr (r, (sh, I', J'))) ∧ XF x I I' ∧ JF x J J'
section CRd
variable {sh : Sh} {I J : Nat → Int → Int} {x : Nat} {p : Int} {W : Int → Int}
theorem CL.lw (L : CL sh x) : sh.2.2.2 x 13 = some (x + 547) ∧ AR sh (x + 547) 103 3 := L.2.2.2.2.2.2.2.2.2.2.2.2.1
theorem CL.ll (L : CL sh x) : sh.2.2.2 x 14 = some (x + 548) ∧ AR sh (x + 548) 103 4 := L.2.2.2.2.2.2.2.2.2.2.2.2.2.1
theorem l_wh (L : CL sh x) : gR (sh, I, J) 0 x 13 = some (x + 547) := gR_m L.t L.lw.1
theorem l_ld (L : CL sh x) : gR (sh, I, J) 0 x 14 = some (x + 548) := gR_m L.t L.ll.1
theorem wh_a (L : CL sh x) {j : Int} (h0 : 0 ≤ j) (h1 : j < 3) : aJ (sh, I, J) 103 (x + 547) j = some (J (x + 547) j) := aJ_m L.lw.2 h0 h1
theorem wh_u (L : CL sh x) {j v : Int} (h0 : 0 ≤ j) (h1 : j < 3) : uJ (sh, I, J) (x + 547) j v = some (sh, I, up1 J (x + 547) (upz (J (x + 547)) j v)) := uJ_m L.lw.2 h0 h1
theorem ld_a (L : CL sh x) {j : Int} (h0 : 0 ≤ j) (h1 : j < 4) : aJ (sh, I, J) 103 (x + 548) j = some (J (x + 548) j) := aJ_m L.ll.2 h0 h1
theorem ld_u (L : CL sh x) {j v : Int} (h0 : 0 ≤ j) (h1 : j < 4) : uJ (sh, I, J) (x + 548) j v = some (sh, I, up1 J (x + 548) (upz (J (x + 548)) j v)) := uJ_m L.ll.2 h0 h1
def STc (I J : Nat → Int → Int) (x : Nat) (s : Sq) : Prop := (J (x + 547) 0 = s 0 ∧ J (x + 547) 1 = s 1 ∧ J (x + 547) 2 = s 2 ∧ I x 17 = s 3) ∧ (J (x + 548) 0 = s 4 ∧ J (x + 548) 1 = s 5 ∧ J (x + 548) 2 = s 6 ∧ J (x + 548) 3 = s 7)
theorem x1_isReduced {a b c : Int} {μ : Me} (ha : -10000000 ≤ a ∧ a ≤ 10000000) (hb : -10000000 ≤ b ∧ b ≤ 10000000) (hc : -10000000 ≤ c ∧ c ≤ 10000000) : s_X1_isReduced a b c μ = some (if (-a < b ∧ b ≤ a) ∧ (a < c ∨ a = c ∧ 0 ≤ b) then 1 else 0, μ) := by
  unfold s_X1_isReduced
  rw [w64_id (x := a) (by omega) (by omega), w64_id (x := -a) (by omega) (by omega), w64_id (x := b) (by omega) (by omega), w64_id (x := c) (by omega) (by omega), show w64 0 = 0 from rfl]
  by_cases h1 : b ≤ -a
  · rw [if_pos h1, if_neg (by omega)]
  rw [if_neg h1]
  by_cases h2 : a < b
  · rw [if_pos h2, if_neg (by omega)]
  rw [if_neg h2]
  by_cases h3 : c < a
  · rw [if_pos h3, if_neg (by omega)]
  rw [if_neg h3]
  by_cases h4 : a < c
  · rw [if_pos h4, if_pos (by omega)]
  rw [if_neg h4]
  by_cases h5 : b < 0
  · rw [if_pos h5, if_neg (by omega)]
  · rw [if_neg h5, if_pos (by omega)]
theorem x1_b255 (L : CL sh x) : s_X1_reduces_b255 x (sh, I, J) = some (.inl (sh, up1 I x (upz (I x) 17 (I x 17 + 1)), J)) := by
  unfold s_X1_reduces_b255
  rw [l_gI L, bsome, l_pI L, bsome]
theorem shN_neg {a b : Int} (h : 0 < a) : -((b + a - 1) / (2 * a)) = (a - b) / (2 * a) := by
  have h1 := Int.mul_ediv_add_emod (b + a - 1) (2 * a)
  have h2 := Int.emod_nonneg (b + a - 1) (show 2 * a ≠ 0 by omega)
  have h3 := Int.emod_lt_of_pos (b + a - 1) (show 0 < 2 * a by omega)
  obtain ⟨q, hq⟩ : ∃ q, (b + a - 1) / (2 * a) = q := ⟨_, rfl⟩
  obtain ⟨r, hr⟩ : ∃ r, (b + a - 1) % (2 * a) = r := ⟨_, rfl⟩
  rw [hq, hr] at h1
  rw [hr] at h2 h3
  rw [hq]
  have e : a - b = (2 * a - 1 - r) + (2 * a) * (-q) := by
    rw [Int.mul_neg]
    omega
  rw [e, Int.add_mul_ediv_left _ _ (by omega), Int.ediv_eq_zero_of_lt (by omega) (by omega), Int.zero_add]
theorem x1_b84 (L : CL sh x) {s : Sq} {D : Int} (hs : STc I J x s) (hi : ivQ D s) : ∃ I' J', s_X1_reduces_b84 x (s 0) (s 1) (sh, I, J) = some (.inl (sh, I', J')) ∧ STc I' J' x (shS s) ∧ XF x I I' ∧ JF x J J' := by
  obtain ⟨⟨a1, a2, a3, a4⟩, a5, a6, a7, a8⟩ := hs
  obtain ⟨i1, i2, i3, -⟩ := hi
  have n1 : x + 548 ≠ x + 547 := by omega
  have n2 : x + 547 ≠ x + 548 := by omega
  have d10 : (1 : Int) ≠ 2 := by decide
  unfold s_X1_reduces_b84
  rw [t_floorDivJ (by omega) (by omega) (by omega) (by omega), bsome, shN_neg i1.1]
  dsimp only
  rw [show (s 0 - s 1) / (2 * s 0) = shN s from rfl]
  obtain ⟨n, hn⟩ : ∃ n, shN s = n := ⟨_, rfl⟩
  rw [hn, l_wh L, bsome, wh_a L (by omega) (by omega), bsome, wh_u L (by omega) (by omega), bsome, l_wh L, bsome, wh_u L (by omega) (by omega), bsome, l_ld L, bsome, ld_a L (by omega) (by omega), bsome, bsome, ld_a L (by omega) (by omega), bsome, ld_u L (by omega) (by omega), bsome, l_ld L, bsome, ld_a L (by omega) (by omega), bsome, bsome, ld_a L (by omega) (by omega), bsome, ld_u L (by omega) (by omega), bsome, x1_b255 L]
  refine ⟨_, _, rfl, ?_, XF.put, ((JF.w.trans JF.w).trans JF.l).trans JF.l⟩
  unfold shS
  rw [hn]
  simp only [up1_s, up1_n _ _ n1, up1_n _ _ n2]
  refine ⟨⟨?_, ?_, ?_, ?_⟩, ?_, ?_, ?_, ?_⟩
  · simp only [up1_s, up1_n _ _ n1, up1_n _ _ n2]
    rw [upz_n _ _ (by decide), upz_n _ _ (by decide), a1]
    rfl
  · simp only [up1_s, up1_n _ _ n1, up1_n _ _ n2]
    rw [upz_s]
    rfl
  · simp only [up1_s, up1_n _ _ n1, up1_n _ _ n2]
    rw [upz_n _ _ (by decide), upz_s, a3]
    show _ = s 0 * n * n + s 1 * n + s 2
    omega
  · rw [up1_s, upz_s, a4]
    rfl
  · simp only [up1_s, up1_n _ _ n1, up1_n _ _ n2]
    rw [upz_n _ _ (by decide), upz_n _ _ (by decide), a5]
    rfl
  · simp only [up1_s, up1_n _ _ n1, up1_n _ _ n2]
    rw [upz_n _ _ (by decide), upz_s, a6, a5]
    show _ = s 4 * n + s 5
    omega
  · simp only [up1_s, up1_n _ _ n1, up1_n _ _ n2]
    rw [upz_n _ _ (by decide), upz_n _ _ (by decide), a7]
    rfl
  · simp only [up1_s, up1_n _ _ n1, up1_n _ _ n2]
    rw [upz_s, upz_n _ _ (by decide), upz_n _ _ (by decide), a8, a7]
    show _ = s 6 * n + s 7
    omega
theorem x1_l206 (L : CL sh x) : ∃ I' J', s_X1_reduces_l206 x 0 (sh, I, J) = some (.inl (sh, I', J')) ∧ I' = up1 I x (upz (I x) 17 (I x 17 + 1)) ∧ (J' (x + 548) 0 = J (x + 548) 1 ∧ J' (x + 548) 1 = -(J (x + 548) 0) ∧ J' (x + 548) 2 = J (x + 548) 3 ∧ J' (x + 548) 3 = -(J (x + 548) 2)) ∧ ∀ a, a ≠ x + 548 → J' a = J a := by
  have step : ∀ (k : Int) (J1 : Nat → Int → Int), (k = 0 ∨ k = 2) → s_X1_reduces_l206 x k (sh, I, J1) = s_X1_reduces_l206 x (k + 2) (sh, I, up1 J1 (x + 548) (upz (upz (J1 (x + 548)) k (J1 (x + 548) (k + 1))) (k + 1) (-(J1 (x + 548) k)))) := by
    intro k J1 hk
    rw [e_X1_reduces_l206]
    unfold s_X1_reduces_l206_st
    rw [show w32 4 = 4 from rfl, w32_id (by omega) (by omega), if_neg (by omega), l_ld L, bsome, ld_a L (by omega) (by omega), bsome, bsome, bsome, ld_a L (by omega) (by omega), bsome, ld_u L (by omega) (by omega), bsome, l_ld L, bsome, ld_u L (by omega) (by omega), bsome, up1_s, up1_up1]
    rfl
  have s0 := step 0 J (Or.inl rfl)
  obtain ⟨J1, hJ1⟩ : ∃ J1, up1 J (x + 548) (upz (upz (J (x + 548)) 0 (J (x + 548) (0 + 1))) (0 + 1) (-(J (x + 548) 0))) = J1 := ⟨_, rfl⟩
  rw [hJ1, show (0 : Int) + 2 = 2 from rfl] at s0
  have s2 := step 2 J1 (Or.inr rfl)
  obtain ⟨J2, hJ2⟩ : ∃ J2, up1 J1 (x + 548) (upz (upz (J1 (x + 548)) 2 (J1 (x + 548) (2 + 1))) (2 + 1) (-(J1 (x + 548) 2))) = J2 := ⟨_, rfl⟩
  rw [hJ2, show (2 : Int) + 2 = 4 from rfl] at s2
  have r1 : J1 (x + 548) = upz (upz (J (x + 548)) 0 (J (x + 548) (0 + 1))) (0 + 1) (-(J (x + 548) 0)) := by rw [← hJ1, up1_s]
  have r2 : J2 (x + 548) = upz (upz (J1 (x + 548)) 2 (J1 (x + 548) (2 + 1))) (2 + 1) (-(J1 (x + 548) 2)) := by rw [← hJ2, up1_s]
  refine ⟨up1 I x (upz (I x) 17 (I x 17 + 1)), J2, ?_, rfl, ⟨?_, ?_, ?_, ?_⟩, fun a ha => ?_⟩
  · rw [s0, s2, e_X1_reduces_l206]
    unfold s_X1_reduces_l206_st
    rw [if_pos (show w32 4 ≤ w32 4 from Int.le_refl _), x1_b255 L]
    rfl
  · rw [r2, upz_n _ _ (by decide), upz_n _ _ (by decide), r1, upz_n _ _ (by decide), upz_s]
    rfl
  · rw [r2, upz_n _ _ (by decide), upz_n _ _ (by decide), r1]
    exact upz_s _ _ _
  · rw [r2, upz_n _ _ (by decide), upz_s, r1, upz_n _ _ (by decide), upz_n _ _ (by decide)]
    rfl
  · rw [r2, show (3 : Int) = 2 + 1 from rfl, upz_s, r1, upz_n _ _ (by decide), upz_n _ _ (by decide)]
  · rw [← hJ2, up1_n _ _ ha, ← hJ1, up1_n _ _ ha]
theorem x1_l33 (L : CL sh x) {D : Int} : ∀ (n : Nat) (s : Sq) (I J : Nat → Int → Int), meS s < n → STc I J x s → ivQ D s → ∃ I' J', s_X1_reduces_l33 x (sh, I, J) = some (sh, I', J') ∧ STc I' J' x (rdS n s) ∧ XF x I I' ∧ JF x J J' ∧ ivQ D (rdS n s)
  | 0, s, I, J, h, _, _ => by omega
  | n + 1, s, I, J, h, hs, hi => by
    have hs0 := hs
    have hi0 := hi
    obtain ⟨⟨a1, a2, a3, a4⟩, a5, a6, a7, a8⟩ := hs
    obtain ⟨i1, i2, i3, -⟩ := hi
    have z0 : w32 0 = 0 := rfl
    have n2 : x + 547 ≠ x + 548 := by omega
    rw [e_X1_reduces_l33]
    unfold s_X1_reduces_l33_st rdS
    rw [l_wh L, bsome, wh_a L (by omega) (by omega), bsome, bsome, wh_a L (by omega) (by omega), bsome, bsome, wh_a L (by omega) (by omega), bsome, a1, a2, a3, x1_isReduced (by omega) (by omega) (by omega), bsome]
    dsimp only
    by_cases hw : wdS s
    · obtain ⟨I1, J1, e1, s1, x1, j1⟩ := x1_b84 L hs0 hi0
      obtain ⟨I2, J2, e2, s2, x2, j2, i2'⟩ := x1_l33 L n (shS s) I1 J1 (by have := shS_me hi0 hw; omega) s1 (shS_iv hi0).1
      rw [if_neg (show ¬((-(s 0) < s 1 ∧ s 1 ≤ s 0) ∧ (s 0 < s 2 ∨ s 0 = s 2 ∧ 0 ≤ s 1)) by unfold wdS at hw; omega), if_pos z0, l_wh L, bsome, wh_a L (by omega) (by omega), bsome, bsome, wh_a L (by omega) (by omega), bsome, a1, a2, w64_id (x := s 1) (by omega) (by omega), w64_id (x := -(s 0)) (by omega) (by omega), w64_id (x := s 0) (by omega) (by omega), if_pos hw]
      refine ⟨I2, J2, ?_, s2, x1.trans x2, j1.trans j2, i2'⟩
      by_cases h1 : s 1 ≤ -(s 0)
      · rw [if_pos h1, e1]
        exact e2
      · rw [if_neg h1, if_neg (by unfold wdS at hw; omega), e1]
        exact e2
    · rw [if_neg hw]
      by_cases ht : tnS s
      · rw [if_neg (show ¬((-(s 0) < s 1 ∧ s 1 ≤ s 0) ∧ (s 0 < s 2 ∨ s 0 = s 2 ∧ 0 ≤ s 1)) by unfold tnS at ht; omega), if_pos z0, l_wh L, bsome, wh_a L (by omega) (by omega), bsome, bsome, wh_a L (by omega) (by omega), bsome, a1, a2, w64_id (x := s 1) (by omega) (by omega), w64_id (x := -(s 0)) (by omega) (by omega), w64_id (x := s 0) (by omega) (by omega), if_pos ht]
        rw [if_neg (by unfold wdS at hw; omega), if_pos (by unfold wdS at hw; omega), bsome, bsome, wh_a L (by omega) (by omega), bsome, wh_u L (by omega) (by omega), bsome, l_wh L, bsome, wh_u L (by omega) (by omega), bsome, l_wh L, bsome, wh_u L (by omega) (by omega), bsome]
        simp only [up1_s, up1_up1]
        obtain ⟨J1, hJ1⟩ : ∃ J1, up1 J (x + 547) (upz (upz (upz (J (x + 547)) 0 (J (x + 547) 2)) 1 (-(s 1))) 2 (s 0)) = J1 := ⟨_, rfl⟩
        rw [hJ1]
        obtain ⟨I2, J2, e2, iE, ⟨l0, l1, l2, l3⟩, hF⟩ := x1_l206 (I := I) (J := J1) L
        have st : STc I2 J2 x (swS s) := by
          have o : J1 (x + 548) = J (x + 548) := by rw [← hJ1, up1_n _ _ (by omega)]
          rw [o] at l0 l1 l2 l3
          have q := hF (x + 547) n2
          refine ⟨⟨?_, ?_, ?_, ?_⟩, ?_, ?_, ?_, ?_⟩
          · rw [q, ← hJ1, up1_s, upz_n _ _ (by decide), upz_n _ _ (by decide), upz_s, a3]; rfl
          · rw [q, ← hJ1, up1_s, upz_n _ _ (by decide), upz_s]; rfl
          · rw [q, ← hJ1, up1_s, upz_s]; rfl
          · rw [iE, up1_s, upz_s, a4]; rfl
          · rw [l0, a6]; rfl
          · rw [l1, a5]; rfl
          · rw [l2, a8]; rfl
          · rw [l3, a7]; rfl
        have jf : JF x J J2 := fun a u v => by rw [hF a v, ← hJ1, up1_n _ _ u]
        have xf : XF x I I2 := by rw [iE]; exact XF.put
        obtain ⟨I3, J3, e3, s3, x3, j3, i3'⟩ := x1_l33 L n (swS s) I2 J2 (by have := swS_me hi0 hw ht; omega) st (swS_iv hi0 hw ht)
        refine ⟨I3, J3, ?_, s3, xf.trans x3, jf.trans j3, i3'⟩
        rw [e2]
        exact e3
      · rw [if_pos (show (-(s 0) < s 1 ∧ s 1 ≤ s 0) ∧ (s 0 < s 2 ∨ s 0 = s 2 ∧ 0 ≤ s 1) by unfold tnS at ht; unfold wdS at hw; omega), if_neg (show ¬ w32 1 = 0 by decide), if_neg ht]
        exact ⟨I, J, rfl, hs0, XF.refl, JF.refl, hi0⟩
theorem rdS_3 : ∀ (n : Nat) (s : Sq), s 3 ≤ rdS n s 3 ∧ rdS n s 3 ≤ s 3 + n
  | 0, s => by
    show s 3 ≤ s 3 ∧ s 3 ≤ s 3 + ((0 : Nat) : Int)
    omega
  | n + 1, s => by
    unfold rdS
    have e1 : shS s 3 = s 3 + 1 := rfl
    have e2 : swS s 3 = s 3 + 1 := rfl
    have h1 := rdS_3 n (shS s)
    have h2 := rdS_3 n (swS s)
    split
    · omega
    · split <;> omega
theorem x1_reduces (L : CL sh x) {a b c : Int} (h : rdOk a b c) (h0 : J (x + 547) 0 = a) (h1 : J (x + 547) 1 = b) (h2 : J (x + 547) 2 = c) : ∃ I' J', s_X1_reduces x (sh, I, J) = some (sh, I', J') ∧ STc I' J' x (rdF a b c) ∧ XF x I I' ∧ JF x J J' ∧ ivQ (b * b - 4 * a * c) (rdF a b c) := by
  unfold s_X1_reduces
  rw [l_pI L, bsome, l_ld L, bsome, ld_u L (by omega) (by omega), bsome, l_ld L, bsome, ld_u L (by omega) (by omega), bsome, l_ld L, bsome, ld_u L (by omega) (by omega), bsome, l_ld L, bsome, ld_u L (by omega) (by omega), bsome]
  simp only [up1_s, up1_up1]
  obtain ⟨J1, hJ1⟩ : ∃ J1, up1 J (x + 548) (upz (upz (upz (upz (J (x + 548)) 0 1) 1 0) 2 0) 3 1) = J1 := ⟨_, rfl⟩
  rw [hJ1]
  have st : STc (up1 I x (upz (I x) 17 0)) J1 x (eq8 a b c 0 1 0 0 1) := by
    have o : J1 (x + 547) = J (x + 547) := by rw [← hJ1, up1_n _ _ (by omega)]
    refine ⟨⟨?_, ?_, ?_, ?_⟩, ?_, ?_, ?_, ?_⟩
    · rw [o, h0]; rfl
    · rw [o, h1]; rfl
    · rw [o, h2]; rfl
    · rw [up1_s, upz_s]; rfl
    · rw [← hJ1, up1_s, upz_n _ _ (by decide), upz_n _ _ (by decide), upz_n _ _ (by decide), upz_s]; rfl
    · rw [← hJ1, up1_s, upz_n _ _ (by decide), upz_n _ _ (by decide), upz_s]; rfl
    · rw [← hJ1, up1_s, upz_n _ _ (by decide), upz_s]; rfl
    · rw [← hJ1, up1_s, upz_s]; rfl
  have hi := rdOk_iv h
  have hm : meS (eq8 a b c 0 1 0 0 1) < 5000 := by
    have : eq8 a b c 0 1 0 0 1 0 = a := rfl
    have h9 := h.1.2
    unfold meS
    split
    · omega
    · split <;> omega
  obtain ⟨I2, J2, e2, s2, x2, k2, i2⟩ := x1_l33 L 5000 _ (up1 I x (upz (I x) 17 0)) J1 hm st hi
  refine ⟨I2, J2, e2, s2, XF.put.trans x2, JF.trans ?_ k2, i2⟩
  rw [← hJ1]
  exact JF.l
theorem x_reduced (L : CL sh x) (R : Room sh) {a b c k : Int} (ha : i32 a) (hb : i32 b) (hc : i32 c) (hk : i32 k) :
    (rdOk a b c → (0 ≤ k ∧ k ≤ 8) → CJ (s_X1_reduced x a b c k (sh, I, J)) sh I J x (rdP a b c k)) ∧ (¬ rdOk a b c → CB (s_X1_reduced x a b c k (sh, I, J)) sh I J 0) ∧ (rdOk a b c → ¬(0 ≤ k ∧ k ≤ 8) → CB (s_X1_reduced x a b c k (sh, I, J)) sh I J 4) := by
  have z0 : w32 0 = 0 := rfl
  have z1 : ¬ w32 1 = 0 := by decide
  have e1 := x1_in (lo := 1) (hi := 999) (μ := (sh, I, J)) ha ⟨by omega, by omega⟩ ⟨by omega, by omega⟩
  have e2 := x1_in (lo := -999) (hi := 999) (μ := (sh, I, J)) hb ⟨by omega, by omega⟩ ⟨by omega, by omega⟩
  have e3 := x1_in (lo := -999) (hi := 999) (μ := (sh, I, J)) hc ⟨by omega, by omega⟩ ⟨by omega, by omega⟩
  have e4 := x1_in (lo := 0) (hi := 8) (μ := (sh, I, J)) hk ⟨by omega, by omega⟩ ⟨by omega, by omega⟩
  unfold i32 at ha hb hc hk
  have run : rdOk a b c → s_X1_reduced x a b c k (sh, I, J) = s_X1_reduced_b65 x a b c k 1 (sh, I, J) := by
    rintro ⟨h1, h2, h3, h4⟩
    have m1 := bd_mul (a := b) (b := b) (by omega) (by omega)
    have m2 := bd_mul (a := 4 * a) (b := c) (by omega) (by omega)
    unfold s_X1_reduced
    rw [e1, bsome]
    dsimp only
    rw [if_pos h1, if_neg z1, e2, bsome]
    dsimp only
    rw [if_pos h2, if_neg z1, e3, bsome]
    dsimp only
    rw [if_pos h3, if_neg z1, w32_id ha.1 ha.2, w32_id hb.1 hb.2, w32_id hc.1 hc.2, show w64 0 = 0 from rfl, w64_id (by omega) (by omega), if_neg (by omega)]
  refine ⟨fun h g => ?_, fun h => ?_, fun h g => ?_⟩
  · rw [run h]
    unfold s_X1_reduced_b65
    rw [x1_must1, xb_r, e4, bsome]
    dsimp only
    rw [if_pos g, x1_thereIs1, xb_r, l_wh L, bsome, wh_u L (by omega) (by omega), bsome, l_wh L, bsome, wh_u L (by omega) (by omega), bsome, l_wh L, bsome, wh_u L (by omega) (by omega), bsome, l_ck L, bsome, w32_id ha.1 ha.2, w32_id hb.1 hb.2, w32_id hc.1 hc.2, w32_id hk.1 hk.2]
    simp only [up1_s, up1_up1]
    obtain ⟨J1, hJ1⟩ : ∃ J1, up1 J (x + 547) (upz (upz (upz (J (x + 547)) 0 a) 1 b) 2 c) = J1 := ⟨_, rfl⟩
    rw [hJ1]
    obtain ⟨I2, J2, e5, ⟨⟨s0, s1, s2, s3⟩, s4, s5, s6, s7⟩, xf, jf, iv⟩ := x1_reduces (I := I) (J := J1) L h (by rw [← hJ1, up1_s, upz_n _ _ (by decide), upz_n _ _ (by decide), upz_s]) (by rw [← hJ1, up1_s, upz_n _ _ (by decide), upz_s]) (by rw [← hJ1, up1_s, upz_s])
    have jf2 : JF x J J2 := by
      refine JF.trans ?_ jf
      rw [← hJ1]
      exact JF.w
    have chg := rdS_3 5000 (eq8 a b c 0 1 0 0 1)
    have chg : 0 ≤ rdF a b c 3 ∧ rdF a b c 3 ≤ 5000 := by
      have h0 : eq8 a b c 0 1 0 0 1 3 = 0 := rfl
      rw [h0] at chg
      exact ⟨chg.1, by have := chg.2; show rdS 5000 _ 3 ≤ 5000; omega⟩
    obtain ⟨s, hs⟩ : ∃ s, rdF a b c = s := ⟨_, rfl⟩
    unfold rdP
    rw [hs] at s0 s1 s2 s3 s4 s5 s6 s7 iv chg ⊢
    obtain ⟨i1, i2, i3, -⟩ := iv
    have fin : ∀ r, (some (Sum.inr (r, ((sh, I2, J2) : Me))) : Option (Ex ⊕ (Int × Me))) = some (.inr (r, (sh, I2, J2))) := fun _ => rfl
    rw [e5, bsome, show w32 3 = 3 from rfl, show w32 8 = 8 from rfl]
    by_cases c1 : 3 ≤ k
    · rw [if_pos c1]
      by_cases c2 : 8 ≤ k
      · rw [if_pos c2, if_pos (show k = 8 by omega), l_wh L, bsome, wh_a L (by omega) (by omega), bsome, bsome, wh_a L (by omega) (by omega), bsome, s0, s2, w64_id (x := s 0) (by omega) (by omega), w64_id (x := s 2) (by omega) (by omega)]
        by_cases c3 : s 0 = s 2
        · rw [if_pos c3, if_pos c3, bsome, wh_a L (by omega) (by omega), bsome, s1, w64_id (x := s 1) (by omega) (by omega), show w64 0 = 0 from rfl]
          by_cases c4 : s 1 = 0
          · rw [if_pos c4, if_pos c4]
            exact ⟨I2, J2, rfl, xf, jf2⟩
          · rw [if_neg c4, if_neg c4, bsome, wh_a L (by omega) (by omega), bsome, bsome, wh_a L (by omega) (by omega), bsome, s1, s0, w64_id (x := s 1) (by omega) (by omega), w64_id (x := s 0) (by omega) (by omega)]
            by_cases c5 : s 1 = s 0
            · rw [if_pos c5, if_pos c5]
              exact ⟨I2, J2, rfl, xf, jf2⟩
            · rw [if_neg c5, if_neg c5]
              exact ⟨I2, J2, rfl, xf, jf2⟩
        · rw [if_neg c3, if_neg c3]
          exact ⟨I2, J2, rfl, xf, jf2⟩
      · rw [if_neg c2, if_neg (show ¬ k = 8 by omega)]
        by_cases c3 : k = 3
        · rw [if_pos c3, l_gI L, bsome, s3, w32_id (x := s 3) (by omega) (by omega), c3]
          exact ⟨I2, J2, rfl, xf, jf2⟩
        · rw [if_neg c3, l_ld L, bsome, ld_a L (by omega) (by omega), bsome]
          refine ⟨I2, J2, ?_, xf, jf2⟩
          have : k = 4 ∨ k = 5 ∨ k = 6 ∨ k = 7 := by omega
          rcases this with e | e | e | e
          · rw [e, show (4 : Int) - 4 = 0 from rfl, s4]
          · rw [e, show (5 : Int) - 4 = 1 from rfl, s5]
          · rw [e, show (6 : Int) - 4 = 2 from rfl, s6]
          · rw [e, show (7 : Int) - 4 = 3 from rfl, s7]
    · rw [if_neg c1, if_neg (show ¬ k = 8 by omega), l_wh L, bsome, wh_a L (by omega) (by omega), bsome]
      refine ⟨I2, J2, ?_, xf, jf2⟩
      have : k = 0 ∨ k = 1 ∨ k = 2 := by omega
      rcases this with e | e | e
      · rw [e, s0]
      · rw [e, s1]
      · rw [e, s2]
  · have fin : CB (s_X1_reduced_b65 x a b c k 0 (sh, I, J)) sh I J 0 := by
      unfold CB s_X1_reduced_b65
      rw [x1_must0 R, xb_l]
    unfold s_X1_reduced s_X1_reduced_b64
    rw [e1, bsome]
    dsimp only
    by_cases h1 : 1 ≤ a ∧ a ≤ 999
    · rw [if_pos h1, if_neg z1, e2, bsome]
      dsimp only
      by_cases h2 : -999 ≤ b ∧ b ≤ 999
      · rw [if_pos h2, if_neg z1, e3, bsome]
        dsimp only
        by_cases h3 : -999 ≤ c ∧ c ≤ 999
        · have m1 := bd_mul (a := b) (b := b) (by omega) (by omega)
          have m2 := bd_mul (a := 4 * a) (b := c) (by omega) (by omega)
          rw [if_pos h3, if_neg z1, w32_id ha.1 ha.2, w32_id hb.1 hb.2, w32_id hc.1 hc.2, show w64 0 = 0 from rfl, w64_id (by omega) (by omega), if_pos (show 0 ≤ b * b - 4 * a * c by
            by_cases h4 : b * b - 4 * a * c < 0
            · exact absurd ⟨h1, h2, h3, h4⟩ h
            · omega)]
          exact fin
        · rw [if_neg h3, if_pos z0]
          exact fin
      · rw [if_neg h2, if_pos z0]
        exact fin
    · rw [if_neg h1, if_pos z0]
      exact fin
  · rw [run h]
    unfold CB s_X1_reduced_b65
    rw [x1_must1, xb_r, e4, bsome]
    dsimp only
    rw [if_neg g, x1_thereIs0 R, xb_l]
end CRd
