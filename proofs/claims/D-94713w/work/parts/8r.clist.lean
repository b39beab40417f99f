/-! the component: lists of reduced forms, real roots -/
set_option maxRecDepth 100000
section CLi
variable {sh : Sh} {I J : Nat → Int → Int} {x : Nat} {p : Int} {W : Int → Int}
theorem x1_divisor {a b : Int} (ha : -1000000 ≤ a ∧ a < 1000000) (hb : -1000000 ≤ b ∧ b < 1000000) (μ : Me) : s_X1_divisor a b μ = some ((Int.gcd a b : Int), μ) := by
  unfold s_X1_divisor
  rw [x_abs (by omega) (by omega), bsome]
  dsimp only
  rw [x_abs (by omega) (by omega), bsome]
  dsimp only
  have key : ∀ (n x y : Nat), y < n → x < 2000000 → y < 2000000 → s_X1_divisor_l10 x y μ = some (((Nat.gcd x y : Nat) : Int), μ) := by
    intro n
    induction n with
    | zero => intro x y h; omega
    | succ n ih =>
      intro x y hy h1 h2
      rw [e_X1_divisor_l10]
      unfold s_X1_divisor_l10_st
      rw [w32_id (by omega) (by omega)]
      by_cases h : y = 0
      · rw [if_pos (by omega), h, Nat.gcd_zero_right]
        rfl
      · rw [if_neg (by omega), rmI_m (by omega) (by omega) (by omega) (by omega), bsome, Int.tmod_eq_emod_of_nonneg (by omega)]
        have hlt := Nat.mod_lt x (show 0 < y by omega)
        have h9 := ih y (x % y) (by omega) h2 (by omega)
        rw [show Nat.gcd x y = Nat.gcd y (x % y) by rw [Nat.gcd_comm x y, Nat.gcd_rec y x, Nat.gcd_comm]]
        exact h9
  exact key (b.natAbs + 1) a.natAbs b.natAbs (by omega) (by omega) (by omega)
/-- beyond the k-th nothing is kept -/
theorem rmS_past {disc all k a b : Int} {s : Rk} (h : k < s.1) : (rmS disc all k a b s).2 = s.2 ∧ k < (rmS disc all k a b s).1 := by
  unfold rmS
  split
  · dsimp only
    rw [if_neg (by omega)]
    exact ⟨rfl, by omega⟩
  · exact ⟨rfl, h⟩
theorem rmB_past {disc all k a : Int} : ∀ (n i : Nat) (s : Rk), k < s.1 → (rmB disc all k a n i s).2 = s.2 ∧ k < (rmB disc all k a n i s).1
  | 0, i, s, h => ⟨rfl, h⟩
  | n + 1, i, s, h => by
    obtain ⟨h1, h2⟩ := rmS_past (disc := disc) (all := all) (a := a) (b := 1 - a + i) h
    obtain ⟨h3, h4⟩ := rmB_past (disc := disc) (all := all) (a := a) n (i + 1) _ h2
    exact ⟨h3.trans h1, h4⟩
theorem rmA_past {disc all k : Int} : ∀ (n a : Nat) (s : Rk), k < s.1 → (rmA disc all k n a s).2 = s.2 ∧ k < (rmA disc all k n a s).1
  | 0, a, s, h => ⟨rfl, h⟩
  | n + 1, a, s, h => by
    unfold rmA
    split
    · exact ⟨rfl, h⟩
    · obtain ⟨h1, h2⟩ := rmB_past (disc := disc) (all := all) (a := a) (2 * a) 0 s h
      obtain ⟨h3, h4⟩ := rmA_past n (a + 1) _ h2
      exact ⟨h3.trans h1, h4⟩
/-- whole holds a triple -/
def wh3 (J : Nat → Int → Int) (x : Nat) (t : Int × Int × Int) : Prop := J (x + 547) 0 = t.1 ∧ J (x + 547) 1 = t.2.1 ∧ J (x + 547) 2 = t.2.2
/-- one pair -/
theorem x1_l24 (L : CL sh x) {disc all k : Int} (hd : -9999 ≤ disc ∧ disc ≤ -3) (hall : all = 0 ∨ all = 1) (hk : i32 k) {a : Nat} (ha : 1 ≤ a ∧ a ≤ 60) {i : Nat} (hi : i < 2 * a) {s : Rk} (hn : 0 ≤ s.1 ∧ s.1 < 100000) :
    (s.1 ≠ k ∨ goR disc all a (1 - (a : Int) + i) = false → ∃ J', s_X1_lists_l24_st x disc all k s.1 a (1 - (a : Int) + i) (sh, I, J) = some (.inl ((rmS disc all k a (1 - (a : Int) + i) s).1, 1 - (a : Int) + ((i + 1 : Nat) : Int), (sh, I, J'))) ∧ JF x J J') ∧
    (s.1 = k → goR disc all a (1 - (a : Int) + i) = true → ∃ J', s_X1_lists_l24_st x disc all k s.1 a (1 - (a : Int) + i) (sh, I, J) = some (.inr (.inr (k + 1, (sh, I, J')))) ∧ wh3 J' x (rmS disc all k a (1 - (a : Int) + i) s).2 ∧ JF x J J') := by
  obtain ⟨b, hb⟩ : ∃ b : Int, 1 - (a : Int) + i = b := ⟨_, rfl⟩
  have hi1 : 1 - (a : Int) + ((i + 1 : Nat) : Int) = b + 1 := by omega
  rw [hi1, hb]
  have bb : -60 ≤ b ∧ b ≤ 60 := by omega
  have ba : b ≤ a := by omega
  have ba2 : -(a : Int) < b := by omega
  have hsq := sq_le (x := b) (m := 60) bb.1 bb.2
  have hsq0 : 0 ≤ b * b := by
    rcases Int.le_total 0 b with h | h
    · exact Int.mul_nonneg h h
    · have := Int.mul_nonneg (show 0 ≤ -b by omega) (show 0 ≤ -b by omega)
      rwa [Int.neg_mul_neg] at this
  obtain ⟨f, hf⟩ : ∃ f, b * b - disc = f := ⟨_, rfl⟩
  have fb : 0 < f ∧ f < 100000 := by omega
  have hcb : 0 ≤ f / (4 * a) ∧ f / (4 * a) < 100000 := by
    have h1 := Int.ediv_nonneg (show 0 ≤ f by omega) (show 0 ≤ 4 * (a : Int) by omega)
    have h2 := Int.ediv_le_self (4 * (a : Int)) (show 0 ≤ f by omega)
    omega
  obtain ⟨c, hc⟩ : ∃ c, f / (4 * (a : Int)) = c := ⟨_, rfl⟩
  rw [hc] at hcb
  have er : rmI f (4 * a) = some (f % (4 * a)) := by rw [rmI_m (by omega) (by omega) (by omega) (by omega), Int.tmod_eq_emod_of_nonneg (by omega)]
  have ed : dvI f (4 * a) = some c := by
    unfold dvI
    rw [w32_id (by omega) (by omega), w32_id (by omega) (by omega), if_neg (by omega), Int.tdiv_eq_ediv_of_nonneg (by omega), hc]
  have rb1 := Int.emod_nonneg f (show 4 * (a : Int) ≠ 0 by omega)
  have rb2 := Int.emod_lt_of_pos f (show 0 < 4 * (a : Int) by omega)
  have hgo : goR disc all a b = (decide (f % (4 * a) = 0) && (decide ((a : Int) < c ∨ ((a : Int) = c ∧ 0 ≤ b)) && (decide (all ≠ 0) || decide ((Int.gcd (Int.gcd a b : Int) c : Int) ≤ 1)))) := by
    unfold goR
    rw [hf, hc]
  have k32 := hk
  unfold i32 at k32
  -- what the end of a turn gives
  have no : goR disc all a b = false → (s_X1_lists_l24_st x disc all k s.1 a b (sh, I, J) = some (.inl (s.1, b + 1, (sh, I, J)))) → ((s.1 ≠ k ∨ goR disc all a b = false → ∃ J', s_X1_lists_l24_st x disc all k s.1 a b (sh, I, J) = some (.inl ((rmS disc all k a b s).1, b + 1, (sh, I, J'))) ∧ JF x J J') ∧
      (s.1 = k → goR disc all a b = true → ∃ J', s_X1_lists_l24_st x disc all k s.1 a b (sh, I, J) = some (.inr (.inr (k + 1, (sh, I, J')))) ∧ wh3 J' x (rmS disc all k a b s).2 ∧ JF x J J')) := by
    intro h e
    have : rmS disc all k a b s = s := by
      unfold rmS
      rw [h, if_neg (by decide)]
    rw [this, h]
    exact ⟨fun _ => ⟨J, e, JF.refl⟩, fun _ h9 => absurd h9 (by decide)⟩
  have yes : goR disc all a b = true → (s_X1_lists_l24_st x disc all k s.1 a b (sh, I, J) = s_X1_lists_b100 x disc all k s.1 a b c (sh, I, J)) → ((s.1 ≠ k ∨ goR disc all a b = false → ∃ J', s_X1_lists_l24_st x disc all k s.1 a b (sh, I, J) = some (.inl ((rmS disc all k a b s).1, b + 1, (sh, I, J'))) ∧ JF x J J') ∧
      (s.1 = k → goR disc all a b = true → ∃ J', s_X1_lists_l24_st x disc all k s.1 a b (sh, I, J) = some (.inr (.inr (k + 1, (sh, I, J')))) ∧ wh3 J' x (rmS disc all k a b s).2 ∧ JF x J J')) := by
    intro h e
    have hr : rmS disc all k a b s = (s.1 + 1, if s.1 = k then ((a : Int), b, c) else s.2) := by
      unfold rmS
      rw [h, if_pos rfl, hf, hc]
    rw [hr, e]
    unfold s_X1_lists_b100
    rw [l_wh L, bsome, wh_u L (by omega) (by omega), bsome, l_wh L, bsome, wh_u L (by omega) (by omega), bsome, l_wh L, bsome, wh_u L (by omega) (by omega), bsome, w32_id (x := s.1) (by omega) (by omega), w32_id (x := k) k32.1 k32.2, w32_id (x := (a : Int)) (by omega) (by omega), w32_id (x := b) (by omega) (by omega), w32_id (x := c) (by omega) (by omega)]
    simp only [up1_s, up1_up1]
    obtain ⟨J1, hJ1⟩ : ∃ J1, up1 J (x + 547) (upz (upz (upz (J (x + 547)) 0 (a : Int)) 1 b) 2 c) = J1 := ⟨_, rfl⟩
    rw [hJ1]
    have jf : JF x J J1 := by
      rw [← hJ1]
      exact JF.w
    refine ⟨fun h9 => ?_, fun h9 _ => ?_⟩
    · have h9 : s.1 ≠ k := h9.elim id (fun g => by rw [h] at g; exact absurd g (by decide))
      rw [if_neg h9]
      exact ⟨J1, rfl, jf⟩
    · rw [if_pos h9, if_pos h9, h9]
      refine ⟨J1, rfl, ⟨?_, ?_, ?_⟩, jf⟩
      · rw [← hJ1, up1_s, upz_n _ _ (by decide), upz_n _ _ (by decide), upz_s]
      · rw [← hJ1, up1_s, upz_n _ _ (by decide), upz_s]
      · rw [← hJ1, up1_s, upz_s]
  by_cases h1 : f % (4 * (a : Int)) = 0
  · by_cases h2 : (a : Int) < c ∨ ((a : Int) = c ∧ 0 ≤ b)
    · rcases hall with rfl | rfl
      · have g1 := gcd_b (a := (a : Int)) (b := b) (Or.inr (by omega)) (by omega) (by omega)
        have g2 := gcd_b (a := ((Int.gcd (a : Int) b : Nat) : Int)) (b := c) (Or.inl (by omega)) (by omega) (by omega)
        by_cases h3 : ((Int.gcd ((Int.gcd (a : Int) b : Nat) : Int) c : Nat) : Int) ≤ 1
        · refine yes (by rw [hgo, decide_eq_true h1, decide_eq_true h2, decide_eq_true h3]; rfl) ?_
          unfold s_X1_lists_l24_st
          rw [w32_id (x := (a : Int)) (by omega) (by omega), w32_id (x := b) (by omega) (by omega), if_neg (by omega), hf, er, bsome, w32_id (x := f % (4 * (a : Int))) (by omega) (by omega), if_pos h1, ed, bsome, w32_id (x := c) (by omega) (by omega), x1_isReduced (by omega) (by omega) (by omega), bsome]
          dsimp only
          rw [if_pos (show (-(a : Int) < b ∧ b ≤ (a : Int)) ∧ ((a : Int) < c ∨ (a : Int) = c ∧ 0 ≤ b) by omega), if_neg (show ¬ w32 1 = 0 by decide), if_pos (show w32 0 = 0 from rfl), x1_divisor (by omega) (by omega), bsome]
          dsimp only
          rw [x1_divisor (by omega) (by omega), bsome]
          dsimp only
          rw [w32_id (x := ((Int.gcd ((Int.gcd (a : Int) b : Nat) : Int) c : Nat) : Int)) (by omega) (by omega), show w32 1 = 1 from rfl, if_pos h3]
        · refine no (by rw [hgo, decide_eq_false h3]; simp) ?_
          unfold s_X1_lists_l24_st
          rw [w32_id (x := (a : Int)) (by omega) (by omega), w32_id (x := b) (by omega) (by omega), if_neg (by omega), hf, er, bsome, w32_id (x := f % (4 * (a : Int))) (by omega) (by omega), if_pos h1, ed, bsome, w32_id (x := c) (by omega) (by omega), x1_isReduced (by omega) (by omega) (by omega), bsome]
          dsimp only
          rw [if_pos (show (-(a : Int) < b ∧ b ≤ (a : Int)) ∧ ((a : Int) < c ∨ (a : Int) = c ∧ 0 ≤ b) by omega), if_neg (show ¬ w32 1 = 0 by decide), if_pos (show w32 0 = 0 from rfl), x1_divisor (by omega) (by omega), bsome]
          dsimp only
          rw [x1_divisor (by omega) (by omega), bsome]
          dsimp only
          rw [w32_id (x := ((Int.gcd ((Int.gcd (a : Int) b : Nat) : Int) c : Nat) : Int)) (by omega) (by omega), show w32 1 = 1 from rfl, if_neg h3]
      · refine yes (by rw [hgo, decide_eq_true h1, decide_eq_true h2]; rfl) ?_
        unfold s_X1_lists_l24_st
        rw [w32_id (x := (a : Int)) (by omega) (by omega), w32_id (x := b) (by omega) (by omega), if_neg (by omega), hf, er, bsome, w32_id (x := f % (4 * (a : Int))) (by omega) (by omega), if_pos h1, ed, bsome, w32_id (x := c) (by omega) (by omega), x1_isReduced (by omega) (by omega) (by omega), bsome]
        dsimp only
        rw [if_pos (show (-(a : Int) < b ∧ b ≤ (a : Int)) ∧ ((a : Int) < c ∨ (a : Int) = c ∧ 0 ≤ b) by omega), if_neg (show ¬ w32 1 = 0 by decide), if_neg (show ¬ w32 1 = 0 by decide)]
    · refine no (by rw [hgo, decide_eq_false h2]; simp) ?_
      unfold s_X1_lists_l24_st
      rw [w32_id (x := (a : Int)) (by omega) (by omega), w32_id (x := b) (by omega) (by omega), if_neg (by omega), hf, er, bsome, w32_id (x := f % (4 * (a : Int))) (by omega) (by omega), if_pos h1, ed, bsome, w32_id (x := c) (by omega) (by omega), x1_isReduced (by omega) (by omega) (by omega), bsome]
      dsimp only
      rw [if_neg (show ¬((-(a : Int) < b ∧ b ≤ (a : Int)) ∧ ((a : Int) < c ∨ (a : Int) = c ∧ 0 ≤ b)) by omega), if_pos (show w32 0 = 0 from rfl)]
  · refine no (by rw [hgo, decide_eq_false h1]; rfl) ?_
    unfold s_X1_lists_l24_st
    rw [w32_id (x := (a : Int)) (by omega) (by omega), w32_id (x := b) (by omega) (by omega), if_neg (by omega), hf, er, bsome, w32_id (x := f % (4 * (a : Int))) (by omega) (by omega), if_neg h1]
theorem rmS_go {disc all k a b : Int} {s : Rk} (h : s.1 ≠ k ∨ goR disc all a b = false) (hk : s.1 ≤ k ∨ k < 0) (h0 : 0 ≤ s.1) : (rmS disc all k a b s).1 ≤ k ∨ k < 0 := by
  by_cases hg : goR disc all a b = true
  · have h1 : s.1 ≠ k := h.elim id (fun g => by rw [hg] at g; exact absurd g (by decide))
    have h2 := (rmS_n disc all k a b s).2
    omega
  · have : rmS disc all k a b s = s := by
      unfold rmS
      rw [if_neg hg]
    rw [this]
    exact hk
theorem x1_lists (L : CL sh x) {disc all k : Int} (hd : -9999 ≤ disc ∧ disc ≤ -3) (hall : all = 0 ∨ all = 1) (hk : i32 k) (s0 : Int × Int × Int) :
    ((rmT disc all k s0).1 ≤ k ∨ k < 0 → ∃ J', s_X1_lists x disc all k (sh, I, J) = some ((rmT disc all k s0).1, (sh, I, J')) ∧ JF x J J') ∧
    (0 ≤ k → k < (rmT disc all k s0).1 → ∃ J', s_X1_lists x disc all k (sh, I, J) = some (k + 1, (sh, I, J')) ∧ wh3 J' x (rmT disc all k s0).2 ∧ JF x J J') := by
  -- what a loop's end says, of a state s that it leads to
  have inner : ∀ (a : Nat) (n i : Nat) (s : Rk) (J1 : Nat → Int → Int), (1 ≤ a ∧ a ≤ 60) → i + n = 2 * a → 0 ≤ s.1 → s.1 + n < 100000 → (s.1 ≤ k ∨ k < 0) → JF x J J1 →
      (∃ J', s_X1_lists_l24 x disc all k s.1 a (1 - (a : Int) + i) (sh, I, J1) = some (.inl ((rmB disc all k a n i s).1, (a : Int) + 1, (sh, I, J'))) ∧ JF x J J' ∧ ((rmB disc all k a n i s).1 ≤ k ∨ k < 0)) ∨
      (∃ J', s_X1_lists_l24 x disc all k s.1 a (1 - (a : Int) + i) (sh, I, J1) = some (.inr (k + 1, (sh, I, J'))) ∧ wh3 J' x (rmB disc all k a n i s).2 ∧ k < (rmB disc all k a n i s).1 ∧ 0 ≤ k ∧ JF x J J') := by
    intro a n
    induction n with
    | zero =>
      intro i s J1 ha hi h0 h1 hs hK
      left
      refine ⟨J1, ?_, hK, hs⟩
      rw [e_X1_lists_l24]
      unfold s_X1_lists_l24_st
      rw [w32_id (x := (a : Int)) (by omega) (by omega), w32_id (x := 1 - (a : Int) + i) (by omega) (by omega), if_pos (by omega)]
      rfl
    | succ n ih =>
      intro i s J1 ha hi h0 h1 hs hK
      obtain ⟨p1, p2⟩ := x1_l24 (I := I) (J := J1) L hd hall hk ha (i := i) (by omega) (s := s) ⟨h0, by omega⟩
      have hb := rmS_n disc all k a (1 - (a : Int) + i) s
      by_cases hc : s.1 ≠ k ∨ goR disc all a (1 - (a : Int) + i) = false
      · obtain ⟨J2, e2, k2⟩ := p1 hc
        have eB : rmB disc all k a (n + 1) i s = rmB disc all k a n (i + 1) (rmS disc all k a (1 - a + i) s) := rfl
        rw [e_X1_lists_l24, e2, eB]
        exact ih (i + 1) (rmS disc all k a (1 - (a : Int) + i) s) J2 ha (by omega) (by omega) (by omega) (rmS_go hc hs h0) (hK.trans k2)
      · right
        have h9 : s.1 = k := by
          by_cases g : s.1 = k
          · exact g
          · exact absurd (Or.inl g) hc
        have h10 : goR disc all a (1 - (a : Int) + i) = true := by
          cases hg : goR disc all a (1 - (a : Int) + i)
          · exact absurd (Or.inr hg) hc
          · rfl
        obtain ⟨J2, e2, w2, k2⟩ := p2 h9 h10
        have past : k < (rmS disc all k a (1 - (a : Int) + i) s).1 := by
          unfold rmS
          rw [h10, if_pos rfl]
          show k < s.1 + 1
          omega
        obtain ⟨q1, q2⟩ := rmB_past (disc := disc) (all := all) (a := a) n (i + 1) _ past
        refine ⟨J2, ?_, ?_, q2, by omega, hK.trans k2⟩
        · rw [e_X1_lists_l24, e2]
          rfl
        · show wh3 J2 x (rmB disc all k a n (i + 1) (rmS disc all k a (1 - a + i) s)).2
          rw [q1]
          exact w2
  have outer : ∀ (n a : Nat) (s : Rk) (J1 : Nat → Int → Int), a + n = 61 → 1 ≤ a → 0 ≤ s.1 → s.1 + 122 * n < 100000 → (s.1 ≤ k ∨ k < 0) → JF x J J1 →
      (∃ J', s_X1_lists_l6 x disc all k s.1 a (sh, I, J1) = some ((rmA disc all k n a s).1, (sh, I, J')) ∧ JF x J J' ∧ ((rmA disc all k n a s).1 ≤ k ∨ k < 0)) ∨
      (∃ J', s_X1_lists_l6 x disc all k s.1 a (sh, I, J1) = some (k + 1, (sh, I, J')) ∧ wh3 J' x (rmA disc all k n a s).2 ∧ k < (rmA disc all k n a s).1 ∧ 0 ≤ k ∧ JF x J J') := by
    intro n
    induction n with
    | zero =>
      intro a s J1 ha h1 h0 h2 hs hK
      have : a = 61 := by omega
      subst this
      left
      refine ⟨J1, ?_, hK, hs⟩
      rw [e_X1_lists_l6]
      unfold s_X1_lists_l6_st
      rw [w32_id (x := -disc) (by omega) (by omega), if_pos (show -disc < w32 (3 * ((61 : Nat) : Int) * ((61 : Nat) : Int)) by
        have : w32 (3 * ((61 : Nat) : Int) * ((61 : Nat) : Int)) = 11163 := by decide
        omega)]
      rfl
    | succ n ih =>
      intro a s J1 ha h1 h0 h2 hs hK
      have haa : (a : Int) * a ≤ 60 * 60 := Int.mul_le_mul (by omega) (by omega) (by omega) (by omega)
      have haa0 : 0 ≤ (a : Int) * a := Int.mul_nonneg (by omega) (by omega)
      have h3a : 3 * (a : Int) * a = 3 * ((a : Int) * a) := Int.mul_assoc _ _ _
      rw [e_X1_lists_l6]
      unfold s_X1_lists_l6_st rmA
      rw [w32_id (x := -disc) (by omega) (by omega), w32_id (x := 3 * (a : Int) * a) (by omega) (by omega)]
      by_cases h9 : -disc < 3 * (a : Int) * a
      · rw [if_pos h9, if_pos h9]
        exact Or.inl ⟨J1, rfl, hK, hs⟩
      · rw [if_neg h9, if_neg h9]
        have hb := rmB_n disc all k a (2 * a) 0 s
        rw [show 1 - (a : Int) = 1 - (a : Int) + ((0 : Nat) : Int) by omega]
        rcases inner a (2 * a) 0 s J1 ⟨h1, by omega⟩ (by omega) h0 (by omega) hs hK with ⟨J2, e2, k2, g2⟩ | ⟨J2, e2, w2, g2, g3, k2⟩
        · rw [e2]
          exact ih (a + 1) (rmB disc all k a (2 * a) 0 s) J2 (by omega) (by omega) (by omega) (by omega) g2 k2
        · right
          obtain ⟨q1, q2⟩ := rmA_past (disc := disc) (all := all) n (a + 1) _ g2
          rw [e2]
          exact ⟨J2, rfl, by rw [q1]; exact w2, q2, g3, k2⟩
  have h := outer 60 1 (0, s0) J (by omega) (by omega) (by show (0 : Int) ≤ 0; omega) (by show (0 : Int) + 122 * ((60 : Nat) : Int) < 100000; omega) (by show (0 : Int) ≤ k ∨ k < 0; omega) JF.refl
  unfold s_X1_lists rmT
  rcases h with ⟨J2, e2, k2, g2⟩ | ⟨J2, e2, w2, g2, g3, k2⟩
  · exact ⟨fun _ => ⟨J2, e2, k2⟩, fun h1 h2 => by omega⟩
  · exact ⟨fun h1 => by omega, fun _ _ => ⟨J2, e2, w2, k2⟩⟩
theorem x1_isDisc (R : Room sh) {d : Int} (hd : i32 d) : (okD d → s_X1_isDisc d (sh, I, J) = some (.inr (sh, I, J))) ∧ (¬ okD d → CB (s_X1_isDisc d (sh, I, J)) sh I J 0) := by
  have e1 := x1_in (lo := -9999) (hi := -3) (μ := (sh, I, J)) hd ⟨by omega, by omega⟩ ⟨by omega, by omega⟩
  have h1 := Int.emod_nonneg d (show (4 : Int) ≠ 0 by decide)
  have h2 := Int.emod_lt_of_pos d (show (0 : Int) < 4 by decide)
  have z0 : w32 0 = 0 := rfl
  have z1 : ¬ w32 1 = 0 := by decide
  unfold CB s_X1_isDisc
  rw [e1, bsome]
  dsimp only
  refine ⟨fun h => ?_, fun h => ?_⟩
  · rw [if_pos h.1, if_neg z1, t_floorModI (by omega) (by omega) hd.1 hd.2, bsome]
    dsimp only
    rw [show w32 2 = 2 from rfl, w32_id (by omega) (by omega), if_neg (by have := h.2; omega), x1_must1, xb_r]
  · by_cases h3 : -9999 ≤ d ∧ d ≤ -3
    · rw [if_pos h3, if_neg z1, t_floorModI (by omega) (by omega) hd.1 hd.2, bsome]
      dsimp only
      rw [show w32 2 = 2 from rfl, w32_id (by omega) (by omega), if_pos (by
        by_cases g : d % 4 < 2
        · exact absurd ⟨h3, g⟩ h
        · omega), x1_must0 R, xb_l]
    · rw [if_neg h3, if_pos z0, x1_must0 R, xb_l]
theorem x_classes (L : CL sh x) (R : Room sh) {d all : Int} (hd : i32 d) (hall : all = 0 ∨ all = 1) (s0 : Int × Int × Int) :
    (okD d → CJ (s_X1_classes x d all (sh, I, J)) sh I J x (rmT d all (-1) s0).1) ∧ (¬ okD d → CB (s_X1_classes x d all (sh, I, J)) sh I J 0) := by
  obtain ⟨e1, e2⟩ := x1_isDisc (I := I) (J := J) R hd
  refine ⟨fun h => ?_, fun h => ?_⟩
  · obtain ⟨J', e3, k3⟩ := (x1_lists (I := I) (J := J) L h.1 hall (k := -1) ⟨by omega, by omega⟩ s0).1 (Or.inr (by omega))
    unfold s_X1_classes
    rw [e1 h, xb_r, l_ck L, bsome, e3, bsome]
    exact ⟨I, J', rfl, XF.refl, k3⟩
  · have := e2 h
    unfold CB at this ⊢
    unfold s_X1_classes
    rw [this, xb_l]
theorem x_reducedAt (L : CL sh x) (R : Room sh) {d k w : Int} (hd : i32 d) (hk : i32 k) (hw : i32 w) (s0 : Int × Int × Int) :
    (okD d → 0 ≤ k → (0 ≤ w ∧ w ≤ 2) → CJ (s_X1_reducedAt x d k w (sh, I, J)) sh I J x (rkP d k w (rmT d 0 k s0))) ∧ (¬(okD d ∧ 0 ≤ k) → CB (s_X1_reducedAt x d k w (sh, I, J)) sh I J 0) ∧
    (okD d → 0 ≤ k → ¬(0 ≤ w ∧ w ≤ 2) → CB (s_X1_reducedAt x d k w (sh, I, J)) sh I J 4) := by
  obtain ⟨e1, e2⟩ := x1_isDisc (I := I) (J := J) R hd
  have e3 := x1_in (lo := 0) (hi := 2) (μ := (sh, I, J)) hw ⟨by omega, by omega⟩ ⟨by omega, by omega⟩
  have hk2 := hk
  unfold i32 at hk
  unfold s_X1_reducedAt
  rw [w32_id hk.1 hk.2]
  refine ⟨fun h h2 h3 => ?_, fun h => ?_, fun h h2 h3 => ?_⟩
  · rw [e1 h, xb_r, if_neg (by omega)]
    unfold s_X1_reducedAt_b13
    rw [x1_must1, xb_r, e3, bsome]
    dsimp only
    rw [if_pos h3, x1_thereIs1, xb_r, l_ck L, bsome]
    obtain ⟨p1, p2⟩ := x1_lists (I := I) (J := J) L h.1 (all := 0) (Or.inl rfl) hk2 s0
    have hb : 0 ≤ (rmT d 0 k s0).1 ∧ (rmT d 0 k s0).1 ≤ 0 + 122 * ((60 : Nat) : Int) := rmA_n d 0 k 60 1 (0, s0) (by omega)
    unfold rkP
    by_cases h9 : (rmT d 0 k s0).1 ≤ k
    · obtain ⟨J', e5, k5⟩ := p1 (Or.inl h9)
      rw [e5, bsome]
      dsimp only
      rw [w32_id (x := (rmT d 0 k s0).1) (by omega) (by omega), w32_id hk.1 hk.2, if_neg (by omega), if_pos h9]
      exact ⟨I, J', rfl, XF.refl, k5⟩
    · obtain ⟨J', e5, ⟨w1, w2, w3⟩, k5⟩ := p2 h2 (by omega)
      rw [e5, bsome]
      dsimp only
      rw [w32_id (x := k + 1) (by omega) (by omega), w32_id hk.1 hk.2, if_pos (by omega), if_neg h9, l_wh L, bsome, wh_a L (by omega) (by omega), bsome]
      refine ⟨I, J', ?_, XF.refl, k5⟩
      by_cases w0 : w = 0
      · rw [if_pos w0, w0, w1]
      · rw [if_neg w0]
        by_cases w1' : w = 1
        · rw [if_pos w1', w1', w2]
        · rw [if_neg w1', show w = 2 by omega, w3]
  · by_cases g : okD d
    · rw [e1 g, xb_r, if_pos (by
        by_cases g2 : 0 ≤ k
        · exact absurd ⟨g, g2⟩ h
        · omega)]
      unfold CB s_X1_reducedAt_b13
      rw [x1_must0 R, xb_l]
    · have := e2 g
      unfold CB at this ⊢
      rw [this, xb_l]
  · rw [e1 h, xb_r, if_neg (by omega)]
    unfold CB s_X1_reducedAt_b13
    rw [x1_must1, xb_r, e3, bsome]
    dsimp only
    rw [if_neg h3, x1_thereIs0 R, xb_l]
-- real roots
theorem real_cubic (b c d e : Int) (μ : Me) : s_X1_cubic b c d e μ = s_X11_realOfCubic b c d e μ := rfl
def bq (n : Nat) (x : Int) : Prop := x.natAbs ≤ n
theorem bq_mul {n m : Nat} {x y : Int} (h : bq n x) (g : bq m y) : bq (n * m) (x * y) := by
  unfold bq at *
  rw [Int.natAbs_mul]
  exact Nat.mul_le_mul h g
theorem bq_add {n m : Nat} {x y : Int} (h : bq n x) (g : bq m y) : bq (n + m) (x + y) := by
  unfold bq at *
  omega
theorem bq_sub {n m : Nat} {x y : Int} (h : bq n x) (g : bq m y) : bq (n + m) (x - y) := by
  unfold bq at *
  omega
theorem qd_zero (a b c d e : Int) (hz : ((c * c) - ((3 * b) * d)) + ((12 * a) * e) = 0) (hq : ((((((((64 * a) * a) * a) * e) - ((((16 * a) * a) * c) * c)) + ((((16 * a) * b) * b) * c)) - ((((16 * a) * a) * b) * d)) - ((((3 * b) * b) * b) * b)) = 0) : (((8 * a) * c) - ((3 * b) * b)) * (((8 * a) * c) - ((3 * b) * b)) = 0 := by grind
theorem real_quartic {a b c d e : Int} (ha : in30 a) (hb : in30 b) (hc : in30 c) (hd : in30 d) (he : in30 e) (μ : Me) : s_X1_quartic a b c d e μ = s_X11_realOfQuartic a b c d e μ := by
  have qa : bq 30 a := by unfold bq; omega
  have qb : bq 30 b := by unfold bq; omega
  have qc : bq 30 c := by unfold bq; omega
  have qd : bq 30 d := by unfold bq; omega
  have qe : bq 30 e := by unfold bq; omega
  have k3 : bq 3 3 := by unfold bq; decide
  have k8 : bq 8 8 := by unfold bq; decide
  have k12 : bq 12 12 := by unfold bq; decide
  have k16 : bq 16 16 := by unfold bq; decide
  have k64 : bq 64 64 := by unfold bq; decide
  have z1 := bq_add (bq_sub (bq_mul qc qc) (bq_mul (bq_mul k3 qb) qd)) (bq_mul (bq_mul k12 qa) qe)
  have p1 := bq_sub (bq_mul (bq_mul k8 qa) qc) (bq_mul (bq_mul k3 qb) qb)
  have q1 := bq_sub (bq_sub (bq_add (bq_sub (bq_mul (bq_mul (bq_mul (bq_mul k64 qa) qa) qa) qe) (bq_mul (bq_mul (bq_mul (bq_mul k16 qa) qa) qc) qc)) (bq_mul (bq_mul (bq_mul (bq_mul k16 qa) qb) qb) qc)) (bq_mul (bq_mul (bq_mul (bq_mul k16 qa) qa) qb) qd)) (bq_mul (bq_mul (bq_mul (bq_mul k3 qb) qb) qb) qb)
  have sq := qd_zero a b c d e
  unfold s_X1_quartic s_X1_quartic_b86 s_X11_realOfQuartic s_X11_realOfQuartic_b86
  obtain ⟨z, hz⟩ : ∃ z, ((c * c) - ((3 * b) * d)) + ((12 * a) * e) = z := ⟨_, rfl⟩
  obtain ⟨pp, hpp⟩ : ∃ z, (((8 * a) * c) - ((3 * b) * b)) = z := ⟨_, rfl⟩
  obtain ⟨q, hq⟩ : ∃ z, ((((((((64 * a) * a) * a) * e) - ((((16 * a) * a) * c) * c)) + ((((16 * a) * b) * b) * c)) - ((((16 * a) * a) * b) * d)) - ((((3 * b) * b) * b) * b)) = z := ⟨_, rfl⟩
  rw [hz] at z1 sq ⊢
  rw [hpp] at p1 sq ⊢
  rw [hq] at q1 sq ⊢
  unfold bq at z1 p1 q1
  generalize ((((4 * z) * z) * z) - _) = y14
  unfold s_X1_quartic_b190 s_X11_realOfQuartic_b219
  rw [w64_id (x := z) (by omega) (by omega), w64_id (x := pp) (by omega) (by omega), w64_id (x := q) (by omega) (by omega), show w64 0 = 0 from rfl]
  by_cases c1 : 0 ≤ w64 y14
  · rw [if_pos c1, if_pos c1]
    by_cases c2 : w64 y14 ≤ 0
    · rw [if_pos c2, if_pos c2]
      by_cases c3 : q = 0
      · rw [if_pos c3, if_pos c3]
        by_cases c4 : z = 0
        · have h0 := sq c4 c3
          have h1 : pp = 0 := by
            rcases Int.mul_eq_zero.mp h0 with h | h <;> exact h
          rw [if_pos c4, if_pos (by omega), if_pos c4]
        · rw [if_neg c4]
          by_cases c5 : 0 ≤ pp
          · rw [if_pos c5, if_pos c5, if_neg c4]
          · rw [if_neg c5, if_neg c5]
      · rw [if_neg c3, if_neg c3]
    · rw [if_neg c2, if_neg c2]
  · rw [if_neg c1, if_neg c1]
theorem x_real (L : CL sh x) (R : Room sh) {a b c d e : Int} (ha : i32 a) (hb : i32 b) (hc : i32 c) (hd : i32 d) (he : i32 e) (m : Nat) :
    (okR a b c d e → ∃ v, (∀ (I' J' : Nat → Int → Int), (if a = 0 then s_X11_realOfCubic b c d e (sh, I', J') else s_X11_realOfQuartic a b c d e (sh, I', J')) = some (v, (sh, I', J'))) ∧ CG (s_X1_real x a b c d e (sh, I, J)) sh I J x v) ∧
    (¬ okR a b c d e → CB (s_X1_real x a b c d e (sh, I, J)) sh I J 0) := by
  have ea := x1_in (lo := -30) (hi := 30) (μ := (sh, I, J)) ha ⟨by omega, by omega⟩ ⟨by omega, by omega⟩
  have eb := x1_in (lo := -30) (hi := 30) (μ := (sh, I, J)) hb ⟨by omega, by omega⟩ ⟨by omega, by omega⟩
  have ec := x1_in (lo := -30) (hi := 30) (μ := (sh, I, J)) hc ⟨by omega, by omega⟩ ⟨by omega, by omega⟩
  have ed := x1_in (lo := -30) (hi := 30) (μ := (sh, I, J)) hd ⟨by omega, by omega⟩ ⟨by omega, by omega⟩
  have ee := x1_in (lo := -30) (hi := 30) (μ := (sh, I, J)) he ⟨by omega, by omega⟩ ⟨by omega, by omega⟩
  unfold i32 at ha hb hc hd he
  have z1 : ¬ w32 1 = 0 := by decide
  have z0 : w32 0 = 0 := rfl
  refine ⟨fun h => ?_, fun h => ?_⟩
  · obtain ⟨⟨h1, h2, h3, h4, h5⟩, h6⟩ := h
    have val : ∃ v, ∀ μ : Me, (if a = 0 then s_X11_realOfCubic b c d e μ else s_X11_realOfQuartic a b c d e μ) = some (v, μ) := by
      by_cases h7 : a = 0
      · obtain ⟨v, hv⟩ := t_cubic_r b c d e ((sh, I, J) : Me)
        refine ⟨v, fun μ => ?_⟩
        rw [if_pos h7]
        unfold s_X11_realOfCubic s_X11_realOfCubic_b67 at hv ⊢
        split at hv
        · rename_i g1
          rw [if_pos g1]
          split at hv
          · rename_i g2
            rw [if_pos g2]
            split at hv
            · rename_i g3
              rw [if_pos g3]
              rw [show v = 1 from (congrArg (fun z : Int × Me => z.1) (Option.some.inj hv)).symm]
            · rename_i g3
              rw [if_neg g3]
              rw [show v = 2 from (congrArg (fun z : Int × Me => z.1) (Option.some.inj hv)).symm]
          · rename_i g2
            rw [if_neg g2]
            rw [show v = 1 from (congrArg (fun z : Int × Me => z.1) (Option.some.inj hv)).symm]
        · rename_i g1
          rw [if_neg g1]
          rw [show v = 3 from (congrArg (fun z : Int × Me => z.1) (Option.some.inj hv)).symm]
      · have gen : ∀ (y10 y14 y16 y18 y20 : Int), ∃ v, ∀ μ : Me, s_X11_realOfQuartic_b219 y10 y14 y16 y18 y20 μ = some (v, μ) := by
          intro y10 y14 y16 y18 y20
          unfold s_X11_realOfQuartic_b219
          repeat' split
          all_goals exact ⟨_, fun _ => rfl⟩
        obtain ⟨v, hv⟩ := gen (((c * c) - ((3 * b) * d)) + ((12 * a) * e)) ((((4 * (((c * c) - ((3 * b) * d)) + ((12 * a) * e))) * (((c * c) - ((3 * b) * d)) + ((12 * a) * e))) * (((c * c) - ((3 * b) * d)) + ((12 * a) * e))) - ((((((((2 * c) * c) * c) - (((9 * b) * c) * d)) + (((27 * b) * b) * e)) + (((27 * a) * d) * d)) - (((72 * a) * c) * e)) * (((((((2 * c) * c) * c) - (((9 * b) * c) * d)) + (((27 * b) * b) * e)) + (((27 * a) * d) * d)) - (((72 * a) * c) * e)))) (((8 * a) * c) - ((3 * b) * b)) ((((b * b) * b) + (((8 * d) * a) * a)) - (((4 * a) * b) * c)) ((((((((64 * a) * a) * a) * e) - ((((16 * a) * a) * c) * c)) + ((((16 * a) * b) * b) * c)) - ((((16 * a) * a) * b) * d)) - ((((3 * b) * b) * b) * b))
        refine ⟨v, fun μ => ?_⟩
        rw [if_neg h7]
        exact hv μ
    obtain ⟨v, hv⟩ := val
    refine ⟨v, fun I' J' => hv _, CG.of ?_⟩
    have key : s_X1_real x a b c d e (sh, I, J) = s_X1_real_b97 a b c d e 1 (sh, I, J) := by
      unfold s_X1_real
      rw [ea, bsome]
      dsimp only
      rw [if_pos h1, if_neg z1, eb, bsome]
      dsimp only
      rw [if_pos h2, if_neg z1, ec, bsome]
      dsimp only
      rw [if_pos h3, if_neg z1, ed, bsome]
      dsimp only
      rw [if_pos h4, if_neg z1, ee, bsome]
      dsimp only
      rw [if_pos h5, if_neg z1]
      unfold s_X1_real_b77 s_X1_real_b92
      rw [if_neg z1, w32_id ha.1 ha.2, w32_id hb.1 hb.2]
      by_cases h7 : a = 0
      · rw [if_pos h7, if_neg (by omega)]
      · rw [if_neg h7]
    rw [key]
    unfold s_X1_real_b97
    rw [x1_must1, xb_r, w32_id ha.1 ha.2, w32_id hb.1 hb.2, w32_id hc.1 hc.2, w32_id hd.1 hd.2, w32_id he.1 he.2]
    have hv1 := hv (sh, I, J)
    by_cases h7 : a = 0
    · rw [if_pos h7] at hv1 ⊢
      rw [real_cubic, hv1, bsome]
    · rw [if_neg h7] at hv1 ⊢
      rw [real_quartic h1 h2 h3 h4 h5, hv1, bsome]
  · have fin : CB (s_X1_real_b97 a b c d e 0 (sh, I, J)) sh I J 0 := by
      unfold CB s_X1_real_b97
      rw [x1_must0 R, xb_l]
    have key : s_X1_real x a b c d e (sh, I, J) = s_X1_real_b97 a b c d e 0 (sh, I, J) := by
      have k76 : ∀ μ : Me, s_X1_real_b76 a b c d e μ = s_X1_real_b97 a b c d e 0 μ := fun μ => by
        unfold s_X1_real_b76 s_X1_real_b77 s_X1_real_b96
        rw [if_pos z0]
      unfold s_X1_real
      rw [ea, bsome]
      dsimp only
      by_cases h1 : in30 a
      · rw [if_pos h1, if_neg z1, eb, bsome]
        dsimp only
        by_cases h2 : in30 b
        · rw [if_pos h2, if_neg z1, ec, bsome]
          dsimp only
          by_cases h3 : in30 c
          · rw [if_pos h3, if_neg z1, ed, bsome]
            dsimp only
            by_cases h4 : in30 d
            · rw [if_pos h4, if_neg z1, ee, bsome]
              dsimp only
              by_cases h5 : in30 e
              · rw [if_pos h5, if_neg z1]
                have h6 : a = 0 ∧ b = 0 := by
                  by_cases g1 : a = 0
                  · by_cases g2 : b = 0
                    · exact ⟨g1, g2⟩
                    · exact absurd ⟨⟨h1, h2, h3, h4, h5⟩, Or.inr g2⟩ h
                  · exact absurd ⟨⟨h1, h2, h3, h4, h5⟩, Or.inl g1⟩ h
                unfold s_X1_real_b77 s_X1_real_b96
                rw [if_neg z1, w32_id ha.1 ha.2, w32_id hb.1 hb.2, if_pos h6.1, if_pos h6.2]
              · rw [if_neg h5, if_pos z0, k76]
            · rw [if_neg h4, if_pos z0, k76]
          · rw [if_neg h3, if_pos z0, k76]
        · rw [if_neg h2, if_pos z0, k76]
      · rw [if_neg h1, if_pos z0, k76]
    rw [key]
    exact fin
end CLi
