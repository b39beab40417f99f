/-! the component: ranks of signs, where what lies -/
set_option maxRecDepth 100000
section CR
variable {sh : Sh} {I J : Nat → Int → Int} {x d : Nat} {p : Int}
theorem x_rnk {w : Int} (hw : w = 0 ∨ w = 1) : ∀ (n : Nat) (t : Tr n) (f a : Nat), n ≤ f → SA sh I n t a → Tr.wf n t → Tr.lv n t ≤ 64 → s_rnk f a w (sh, I, J) = some (Tr.rk w n t, (sh, I, J))
  | 0, t, _, _, _, _, _, _ => Empty.elim t
  | n + 1, t, 0, _, h, _, _, _ => by omega
  | n + 1, .inl u, f + 1, a, hf, hS, hwf, hl => by
    have hS : sh.2.1 a = 2 := hS
    show (if sh.2.1 a = 2 then s_X4_rank (s_rnk f) a w (sh, I, J) else _) = _
    rw [if_pos hS]
    unfold s_X4_rank
    show _ = some ((if w = 0 then 1 else 0), (sh, I, J))
    rcases hw with rfl | rfl
    · rfl
    · rfl
  | n + 1, .inr (.inl v), f + 1, a, hf, hS, hwf, hl => by
    have hS : sh.2.1 a = 10 ∧ I a 0 = v := hS
    show (if sh.2.1 a = 2 then _ else if sh.2.1 a = 10 then s_X12_rank (s_rnk f) a w (sh, I, J) else _) = _
    rw [if_neg (by omega), if_pos hS.1]
    rfl
  | n + 1, .inr (.inr (.inl t)), f + 1, a, hf, hS, hwf, hl => by
    obtain ⟨hS, b, hb, hSb⟩ := (show sh.2.1 a = 11 ∧ ∃ b, sh.2.2.2 a 0 = some b ∧ SA sh I n t b from hS)
    have e1 := x_rnk hw n t f b (by omega) hSb hwf hl
    show (if sh.2.1 a = 2 then _ else if sh.2.1 a = 10 then _ else if sh.2.1 a = 11 then s_X13_rank (s_rnk f) a w (sh, I, J) else _) = _
    rw [if_neg (by omega), if_neg (by omega), if_pos hS]
    unfold s_X13_rank
    rw [gR_m hS hb, bsome, e1, bsome]
    rfl
  | n + 1, .inr (.inr (.inr (o, t1, t2))), f + 1, a, hf, hS, hwf, hl => by
    obtain ⟨⟨hS1, hS2⟩, b, c, ⟨hb, hc⟩, hSb, hSc⟩ := (show (sh.2.1 a = (if o.1 = 2 then 14 else if o.1 = 3 then 13 else 12) ∧ (o.1 = 4 → I a 2 = o.2)) ∧ ∃ b c, (sh.2.2.2 a 0 = some b ∧ sh.2.2.2 a 1 = some c) ∧ SA sh I n t1 b ∧ SA sh I n t2 c from hS)
    obtain ⟨ho, hw1, hw2⟩ := (show okO o ∧ Tr.wf n t1 ∧ Tr.wf n t2 from hwf)
    have hl : Tr.lv n t1 + Tr.lv n t2 ≤ 64 := hl
    have e1 := x_rnk hw n t1 f b (by omega) hSb hw1 (by omega)
    have e2 := x_rnk hw n t2 f c (by omega) hSc hw2 (by omega)
    have b1 := Tr.rk_b w n t1 hw1
    have b2 := Tr.rk_b w n t2 hw2
    obtain ⟨r1, h1⟩ : ∃ r, Tr.rk w n t1 = r := ⟨_, rfl⟩
    obtain ⟨r2, h2⟩ : ∃ r, Tr.rk w n t2 = r := ⟨_, rfl⟩
    rw [h1] at e1 b1
    rw [h2] at e2 b2
    show (if sh.2.1 a = 2 then _ else if sh.2.1 a = 10 then _ else if sh.2.1 a = 11 then _ else if sh.2.1 a = 12 then s_X14_rank_p12 (s_rnk f) a w (sh, I, J) else if sh.2.1 a = 13 then s_X14_rank_p13 (s_rnk f) a w (sh, I, J) else if sh.2.1 a = 14 then s_X14_rank_p14 (s_rnk f) a w (sh, I, J) else none) = some (jnR w o (Tr.rk w n t1) (Tr.rk w n t2), (sh, I, J))
    rw [h1, h2]
    obtain ⟨o1, o2⟩ := o
    dsimp only at hS1 hS2 ho
    have w1 : w32 r1 = r1 := w32_id (by omega) (by omega)
    have w2 : w32 r2 = r2 := w32_id (by omega) (by omega)
    have w3 : w32 (-1) = -1 := rfl
    unfold jnR
    rcases ho.1 with h | h | h
    · have h : o1 = 2 := h
      subst h
      rw [if_pos rfl] at hS1
      rw [if_neg (by omega), if_neg (by omega), if_neg (by omega), if_neg (by omega), if_neg (by omega), if_pos hS1]
      unfold s_X14_rank_p14
      rw [gR_m hS1 hb, bsome, e1, bsome, gR_m hS1 hc, bsome, e2, bsome]
      dsimp only
      rw [w1, w2, w3, ck_m hS1, bsome]
      unfold s_X17_both
      rw [w1, w2]
      by_cases g1 : r1 = -1
      · rw [if_pos g1, if_pos (by omega)]
      · rw [if_neg g1]
        by_cases g2 : r2 = -1
        · rw [if_pos g2, if_pos (by omega)]
        · rw [if_neg g2]
          by_cases g3 : r1 = r2
          · rw [if_pos g3, if_neg (by omega), if_pos rfl]
            rfl
          · rw [if_neg g3, if_pos (Or.inr (Or.inr ⟨rfl, g3⟩))]
            rfl
    · have h : o1 = 3 := h
      subst h
      rw [if_neg (by decide), if_pos rfl] at hS1
      rw [if_neg (by omega), if_neg (by omega), if_neg (by omega), if_neg (by omega), if_pos hS1]
      unfold s_X14_rank_p13
      rw [gR_m hS1 hb, bsome, e1, bsome, gR_m hS1 hc, bsome, e2, bsome]
      dsimp only
      rw [w1, w2, w3, ck_m hS1, bsome]
      unfold s_X16_both
      by_cases g1 : r1 = -1
      · rw [if_pos g1, if_pos (by omega)]
      · rw [if_neg g1]
        by_cases g2 : r2 = -1
        · rw [if_pos g2, if_pos (by omega)]
        · rw [if_neg g2, if_neg (show ¬(r1 < 0 ∨ r2 < 0 ∨ (3 : Int) = 2 ∧ r1 ≠ r2) by omega), if_neg (show ¬ (3 : Int) = 2 by decide), if_neg (show ¬(w ≠ 0 ∧ (3 : Int) = 4) by omega), Int.add_zero]
          rfl
    · have h : o1 = 4 := h
      subst h
      rw [if_neg (by decide), if_neg (by decide)] at hS1
      rw [if_neg (by omega), if_neg (by omega), if_neg (by omega), if_pos hS1]
      unfold s_X14_rank_p12
      rw [gR_m hS1 hb, bsome, e1, bsome, gR_m hS1 hc, bsome, e2, bsome]
      dsimp only
      rw [w1, w2, w3, ck_m hS1, bsome]
      unfold s_X15_both
      by_cases g1 : r1 = -1
      · rw [if_pos g1, if_pos (by omega)]
      · rw [if_neg g1]
        by_cases g2 : r2 = -1
        · rw [if_pos g2, if_pos (by omega)]
        · rw [if_neg g2, if_neg (show ¬(r1 < 0 ∨ r2 < 0 ∨ (4 : Int) = 2 ∧ r1 ≠ r2) by omega), if_neg (show ¬ (4 : Int) = 2 by decide)]
          rcases hw with rfl | rfl
          · rw [if_pos (show w32 0 = 0 from rfl), if_neg (show ¬((0 : Int) ≠ 0 ∧ (4 : Int) = 4) by omega)]
            rfl
          · rw [if_neg (show ¬ w32 1 = 0 by decide), gI_m hS1, bsome, hS2 rfl, if_pos (show (1 : Int) ≠ 0 ∧ (4 : Int) = 4 by omega)]
            rfl
-- the layout
def RL (sh : Sh) (r : Nat) : Prop := sh.2.1 r = 1 ∧ (sh.2.2.2 r 0 = some (r + 1) ∧ AR sh (r + 1) 102 400) ∧ (sh.2.2.2 r 1 = some (r + 2) ∧ sh.2.1 (r + 2) = 2) ∧ sh.2.2.2 r 2 = some (r + 3) ∧ sh.2.1 (r + 3) = 3
def AO (sh : Sh) (a t : Nat) (n : Int) : Prop := sh.2.1 a = t ∧ sh.2.2.1 a = n ∧ n ≤ 2147483648
/-- an act lies at a -/
def CA (sh : Sh) (a : Nat) : Prop := sh.2.1 a = 8 ∧ (sh.2.2.2 a 0 = some (a + 1) ∧ FA sh (a + 1)) ∧ sh.2.2.2 a 1 = some (a + 3) ∧ FA sh (a + 3)
/-- a state lies at S -/
def ST (sh : Sh) (S : Nat) : Prop := sh.2.1 S = 7 ∧ (sh.2.2.2 S 0 = some (S + 1) ∧ AR sh (S + 1) 104 16) ∧ (sh.2.2.2 S 1 = some (S + 2) ∧ AR sh (S + 2) 105 8) ∧ (sh.2.2.2 S 2 = some (S + 11) ∧ AR sh (S + 11) 106 8) ∧ (sh.2.2.2 S 3 = some (S + 12) ∧ AR sh (S + 12) 107 40) ∧
  (∀ k : Nat, k < 16 → sh.2.2.2 (S + 1) k = some (S + 13 + 2 * k) ∧ FA sh (S + 13 + 2 * k)) ∧ (∀ k : Nat, k < 8 → sh.2.2.2 (S + 2) k = some (S + 3 + k) ∧ AR sh (S + 3 + k) 101 4) ∧ (∀ k : Nat, k < 40 → CA sh (S + 45 + 5 * k)) ∧
  ∃ π : Nat → Nat, (∀ k : Nat, k < 40 → π k < 40 ∧ sh.2.2.2 (S + 12) k = some (S + 45 + 5 * π k)) ∧ ∀ i j : Nat, i < 40 → j < 40 → π i = π j → i = j
/-- the component lies at x -/
def CL (sh : Sh) (x : Nat) : Prop := CV sh x ∧ (sh.2.2.2 x 0 = some (x + 1) ∧ RL sh (x + 1)) ∧ (sh.2.2.2 x 2 = some (x + 16) ∧ ST sh (x + 16)) ∧ (sh.2.2.2 x 3 = some (x + 261) ∧ ST sh (x + 261)) ∧
  (sh.2.2.2 x 5 = some (x + 507) ∧ FA sh (x + 507)) ∧ (sh.2.2.2 x 6 = some (x + 509) ∧ FA sh (x + 509)) ∧ (sh.2.2.2 x 7 = some (x + 511) ∧ FA sh (x + 511)) ∧ (sh.2.2.2 x 8 = some (x + 513) ∧ FA sh (x + 513)) ∧
  (sh.2.2.2 x 9 = some (x + 515) ∧ AR sh (x + 515) 105 8 ∧ (∀ k : Nat, k < 8 → AR sh (x + 516 + k) 101 492) ∧ ∃ π : Nat → Nat, (∀ k : Nat, k < 8 → π k < 8 ∧ sh.2.2.2 (x + 515) k = some (x + 516 + π k)) ∧ ∀ i j : Nat, i < 8 → j < 8 → π i = π j → i = j) ∧
  (sh.2.2.2 x 10 = some (x + 524) ∧ AR sh (x + 524) 105 20 ∧ ∀ k : Nat, k < 20 → sh.2.2.2 (x + 524) k = some (x + 525 + k) ∧ AR sh (x + 525 + k) 101 9) ∧
  (sh.2.2.2 x 11 = some (x + 545) ∧ AR sh (x + 545) 101 3) ∧ (sh.2.2.2 x 12 = some (x + 546) ∧ AR sh (x + 546) 101 3) ∧ (sh.2.2.2 x 13 = some (x + 547) ∧ AR sh (x + 547) 103 3) ∧ (sh.2.2.2 x 14 = some (x + 548) ∧ AR sh (x + 548) 103 4) ∧ sh.2.2.2 x 15 = some (x + 549) ∧ AR sh (x + 549) 101 20
theorem CL.cv (L : CL sh x) : CV sh x := L.1
theorem CL.dl (L : CL sh x) : DL sh (x + 5) := L.1.2.1.2
theorem CL.t (L : CL sh x) : sh.2.1 x = 0 := L.1.1
theorem CL.rl (L : CL sh x) : RL sh (x + 1) := L.2.1.2
theorem CL.st (L : CL sh x) : ST sh (x + 16) := L.2.2.1.2
theorem CL.im (L : CL sh x) : ST sh (x + 261) := L.2.2.2.1.2
theorem CL.fw (L : CL sh x) : FA sh (x + 507) := L.2.2.2.2.1.2
theorem CL.fo (L : CL sh x) : FA sh (x + 509) := L.2.2.2.2.2.1.2
theorem CL.ft (L : CL sh x) : FA sh (x + 511) := L.2.2.2.2.2.2.1.2
theorem CL.fd (L : CL sh x) : FA sh (x + 513) := L.2.2.2.2.2.2.2.1.2
theorem l_ck (L : CL sh x) : ck (sh, I, J) 0 x = some () := ck_m L.t
theorem l_gI (L : CL sh x) (k : Int) : gI (sh, I, J) 0 x k = some (I x k) := gI_m L.t k
theorem l_pI (L : CL sh x) (k v : Int) : pI (sh, I, J) 0 x k v = some (sh, up1 I x (upz (I x) k v), J) := pI_m L.t k v
theorem l_rd (L : CL sh x) : gR (sh, I, J) 0 x 0 = some (x + 1) := gR_m L.t L.2.1.1
theorem l_dk (L : CL sh x) : gR (sh, I, J) 0 x 1 = some (x + 5) := c_desk L.1
theorem l_st (L : CL sh x) : gR (sh, I, J) 0 x 2 = some (x + 16) := gR_m L.t L.2.2.1.1
theorem l_im (L : CL sh x) : gR (sh, I, J) 0 x 3 = some (x + 261) := gR_m L.t L.2.2.2.1.1
theorem l_sv (L : CL sh x) : gR (sh, I, J) 0 x 4 = some (x + 506) := c_shv L.1
theorem l_wk (L : CL sh x) : gR (sh, I, J) 0 x 5 = some (x + 507) := gR_m L.t L.2.2.2.2.1.1
theorem l_ot (L : CL sh x) : gR (sh, I, J) 0 x 6 = some (x + 509) := gR_m L.t L.2.2.2.2.2.1.1
theorem l_th (L : CL sh x) : gR (sh, I, J) 0 x 7 = some (x + 511) := gR_m L.t L.2.2.2.2.2.2.1.1
theorem l_dr (L : CL sh x) : gR (sh, I, J) 0 x 8 = some (x + 513) := gR_m L.t L.2.2.2.2.2.2.2.1.1
-- a state
variable {S : Nat}
theorem s_ck (T : ST sh S) : ck (sh, I, J) 7 S = some () := ck_m T.1
theorem s_gI (T : ST sh S) (k : Int) : gI (sh, I, J) 7 S k = some (I S k) := gI_m T.1 k
theorem s_pI (T : ST sh S) (k v : Int) : pI (sh, I, J) 7 S k v = some (sh, up1 I S (upz (I S) k v), J) := pI_m T.1 k v
theorem s_fo (T : ST sh S) : gR (sh, I, J) 7 S 0 = some (S + 1) := gR_m T.1 T.2.1.1
theorem s_tb (T : ST sh S) : gR (sh, I, J) 7 S 1 = some (S + 2) := gR_m T.1 T.2.2.1.1
theorem s_sg (T : ST sh S) : gR (sh, I, J) 7 S 2 = some (S + 11) := gR_m T.1 T.2.2.2.1.1
theorem s_ac (T : ST sh S) : gR (sh, I, J) 7 S 3 = some (S + 12) := gR_m T.1 T.2.2.2.2.1.1
theorem ST.ff (T : ST sh S) {k : Nat} (h : k < 16) : FA sh (S + 13 + 2 * k) := (T.2.2.2.2.2.1 k h).2
theorem ST.ta (T : ST sh S) {k : Nat} (h : k < 8) : AR sh (S + 3 + k) 101 4 := (T.2.2.2.2.2.2.1 k h).2
theorem ST.ca (T : ST sh S) {k : Nat} (h : k < 40) : CA sh (S + 45 + 5 * k) := T.2.2.2.2.2.2.2.1 k h
theorem s_form (T : ST sh S) {k : Nat} (h : k < 16) : aR (sh, I, J) 104 (S + 1) k = some (S + 13 + 2 * k) := aR_m T.2.1.2 (by omega) (by omega) (T.2.2.2.2.2.1 k h).1
theorem s_table (T : ST sh S) {k : Nat} (h : k < 8) : aR (sh, I, J) 105 (S + 2) k = some (S + 3 + k) := aR_m T.2.2.1.2 (by omega) (by omega) (T.2.2.2.2.2.2.1 k h).1
theorem s_sign (T : ST sh S) {k a : Nat} (h : k < 8) (e : sh.2.2.2 (S + 11) k = some a) : aR (sh, I, J) 106 (S + 11) k = some a := aR_m T.2.2.2.1.2 (by omega) (by omega) e
theorem s_act (T : ST sh S) {k a : Nat} (h : k < 40) (e : sh.2.2.2 (S + 12) k = some a) : aR (sh, I, J) 107 (S + 12) k = some a := aR_m T.2.2.2.2.1.2 (by omega) (by omega) e
end CR
