/-! the component: the reader's steps -/
set_option maxRecDepth 100000
/-- the reader's numbers and its text -/
def RC (I : Nat → Int → Int) (x : Nat) (B : Int → Int) (n a deep it : Int) : Prop := (I (x + 1) 4 = n ∧ I (x + 1) 5 = a) ∧ (I (x + 1) 6 = deep ∧ I (x + 1) 7 = it) ∧ ∀ j : Int, 0 ≤ j → j < 400 → I (x + 1 + 1) j = B j
/-- what reading touches of what was there -/
def FRc (x : Nat) (I I' : Nat → Int → Int) : Prop := (∀ b : Nat, b ≠ x + 1 → b ≠ x + 4 → I' b = I b) ∧ ∀ k : Int, k ≠ 5 → k ≠ 6 → k ≠ 7 → I' (x + 1) k = I (x + 1) k
theorem FRc.refl {x : Nat} {I : Nat → Int → Int} : FRc x I I := ⟨fun _ _ _ => rfl, fun _ _ _ _ => rfl⟩
theorem FRc.trans {x : Nat} {I I' I2 : Nat → Int → Int} (h : FRc x I I') (g : FRc x I' I2) : FRc x I I2 := ⟨fun b u v => (g.1 b u v).trans (h.1 b u v), fun k u v w => (g.2 k u v w).trans (h.2 k u v w)⟩
theorem FRc.put {x : Nat} {I : Nat → Int → Int} {k v : Int} (h : k = 5 ∨ k = 6 ∨ k = 7) : FRc x I (up1 I (x + 1) (upz (I (x + 1)) k v)) := ⟨fun b u _ => up1_n _ _ u, fun j a b c => by rw [up1_s, upz_n _ _ (by omega)]⟩
theorem RC.w5 {I : Nat → Int → Int} {x : Nat} {B : Int → Int} {n a deep it : Int} (h : RC I x B n a deep it) (v : Int) : RC (up1 I (x + 1) (upz (I (x + 1)) 5 v)) x B n v deep it := by
  obtain ⟨⟨h1, h2⟩, ⟨h3, h4⟩, h5⟩ := h
  unfold RC
  rw [up1_s, upz_s, upz_n _ _ (by decide), upz_n _ _ (by decide), upz_n _ _ (by decide), up1_n _ _ (by omega)]
  exact ⟨⟨h1, rfl⟩, ⟨h3, h4⟩, h5⟩
theorem RC.w6 {I : Nat → Int → Int} {x : Nat} {B : Int → Int} {n a deep it : Int} (h : RC I x B n a deep it) (v : Int) : RC (up1 I (x + 1) (upz (I (x + 1)) 6 v)) x B n a v it := by
  obtain ⟨⟨h1, h2⟩, ⟨h3, h4⟩, h5⟩ := h
  unfold RC
  rw [up1_s, upz_s, upz_n _ _ (by decide), upz_n _ _ (by decide), upz_n _ _ (by decide), up1_n _ _ (by omega)]
  exact ⟨⟨h1, h2⟩, ⟨rfl, h4⟩, h5⟩
theorem RC.w7 {I : Nat → Int → Int} {x : Nat} {B : Int → Int} {n a deep it : Int} (h : RC I x B n a deep it) (v : Int) : RC (up1 I (x + 1) (upz (I (x + 1)) 7 v)) x B n a deep v := by
  obtain ⟨⟨h1, h2⟩, ⟨h3, h4⟩, h5⟩ := h
  unfold RC
  rw [up1_s, upz_s, upz_n _ _ (by decide), upz_n _ _ (by decide), upz_n _ _ (by decide), up1_n _ _ (by omega)]
  exact ⟨⟨h1, h2⟩, ⟨h3, rfl⟩, h5⟩
theorem anB {b : Int} (h : -128 ≤ b ∧ b < 128) : anI b 255 = if b < 0 then b + 256 else b := by
  have key : ∀ k : Nat, k < 256 → anI ((k : Int) - 128) 255 = if (k : Int) - 128 < 0 then (k : Int) - 128 + 256 else (k : Int) - 128 := by decide +kernel
  have := key (b + 128).toNat (by omega)
  rw [show (((b + 128).toNat : Nat) : Int) - 128 = b by omega] at this
  exact this
/-- the sign that stands there -/
def sgV (B : Int → Int) (n a : Int) : Int := if skS B n a < n then anI (B (skS B n a)) 255 else -1
theorem sgV_b {B : Int → Int} (hB : okB B) (n a : Int) : -1 ≤ sgV B n a ∧ sgV B n a ≤ 255 := by
  unfold sgV
  split
  · rw [anB (hB _)]
    have := hB (skS B n a)
    split <;> omega
  · omega
theorem sgV_c {B : Int → Int} (hB : okB B) {n a c : Int} (hc : 0 ≤ c ∧ c < 128) : sgV B n a = c ↔ skS B n a < n ∧ B (skS B n a) = c := by
  unfold sgV
  by_cases h : skS B n a < n
  · rw [if_pos h, anB (hB _)]
    have := hB (skS B n a)
    by_cases g : B (skS B n a) < 0
    · rw [if_pos g]
      exact ⟨fun e => by omega, fun e => by omega⟩
    · rw [if_neg g]
      exact ⟨fun e => ⟨h, e⟩, fun e => e.2⟩
  · rw [if_neg h]
    exact ⟨fun e => by omega, fun e => absurd e.1 h⟩
section CR1
variable {sh : Sh} {I J : Nat → Int → Int} {x : Nat} {B : Int → Int} {n a deep it : Int}
/-- a fault at a place -/
def FX {α : Type} (y : Option (Ex ⊕ α)) (sh : Sh) (I J : Nat → Int → Int) (x : Nat) (pl : Int) : Prop := ∃ I', y = some (.inl (5, x + 4, (sh, I', J))) ∧ I' (x + 4) 6 = pl ∧ FRc x I I'
theorem r_wr (L : CL sh x) : gR (sh, I, J) 1 (x + 1) 2 = some (x + 4) := gR_m L.rl.1 L.rl.2.2.2.1
theorem r_wt (L : CL sh x) : sh.2.1 (x + 4) = 3 := L.rl.2.2.2.2
theorem r_it (L : CL sh x) : gR (sh, I, J) 1 (x + 1) 1 = some (x + 3) ∧ sh.2.1 (x + 3) = 2 := ⟨gR_m L.rl.1 L.rl.2.2.1.1, L.rl.2.2.1.2⟩
theorem x2_fail (L : CL sh x) {pl : Int} : FX (s_X2_fail (x + 1) pl (sh, I, J)) sh I J x pl := by
  unfold FX s_X2_fail
  refine ⟨up1 I (x + 4) (upz (I (x + 4)) 6 pl), ?_, by rw [up1_s, upz_s], ⟨fun b _ v => up1_n _ _ v, fun k _ _ _ => by rw [up1_n _ _ (by omega)]⟩⟩
  rw [r_wr L, bsome, pI_m (r_wt L), bsome, r_wr L, bsome, ck_m (r_wt L), bsome]
theorem FX.pre {α : Type} {y : Option (Ex ⊕ α)} {I' : Nat → Int → Int} {pl : Int} (h : FX y sh I' J x pl) (g : FRc x I I') : FX y sh I J x pl := by
  obtain ⟨I2, h1, h2, h3⟩ := h
  exact ⟨I2, h1, h2, g.trans h3⟩
theorem x2_sign (L : CL sh x) (hn : n ≤ 400) (hB : okB B) (h : RC I x B n a deep it) (h0 : 0 ≤ a) (h1 : a ≤ n) : ∃ I', s_X2_sign (x + 1) (sh, I, J) = some (sgV B n a, (sh, I', J)) ∧ RC I' x B n (skS B n a) deep it ∧ FRc x I I' := by
  have T := L.rl
  have b38 : ∀ (a : Int) (I1 : Nat → Int → Int), RC I1 x B n a deep it → 0 ≤ a → a ≤ n → s_X2_sign_b38 (x + 1) (sh, I1, J) = some (if a < n then anI (B a) 255 else -1, (sh, I1, J)) := by
    intro a I1 h u v
    obtain ⟨⟨h4, h5⟩, -, h6⟩ := h
    unfold s_X2_sign_b38
    rw [r_gI L, bsome, r_gI L, bsome, h4, h5, w32_id (x := n) (by omega) (by omega), w32_id (x := a) (by omega) (by omega)]
    by_cases c : a < n
    · rw [if_neg (by omega), r_tp L, bsome, bsome, r_ta L u (by omega), bsome, h6 a u (by omega), if_pos c]
    · rw [if_pos (by omega), if_neg c]
  have key : ∀ (k : Nat) (a : Int) (I1 : Nat → Int → Int), n - a < k → RC I1 x B n a deep it → 0 ≤ a → a ≤ n → ∃ I', s_X2_sign_l0 (x + 1) (sh, I1, J) = some (if skp B n k a < n then anI (B (skp B n k a)) 255 else -1, (sh, I', J)) ∧ RC I' x B n (skp B n k a) deep it ∧ FRc x I1 I' := by
    intro k
    induction k with
    | zero => intro a I1 hk h u v; omega
    | succ k ih =>
      intro a I1 hk h u v
      have hh := h
      obtain ⟨⟨h4, h5⟩, -, h6⟩ := h
      have el : s_X2_sign_l0 (x + 1) (sh, I1, J) = (s_X2_sign_l0_st (x + 1) (sh, I1, J)).bind fun z => z.elim (fun s : Me => s_X2_sign_l0 (x + 1) s) some := by
        unfold s_X2_sign_l0
        rw [whileO_eq]
      have bb := hB a
      rw [el]
      have sk1 : (a < n ∧ B a = 32) → skp B n (k + 1) a = skp B n k (a + 1) := fun g => if_pos g
      have sk2 : ¬(a < n ∧ B a = 32) → skp B n (k + 1) a = a := fun g => if_neg g
      unfold s_X2_sign_l0_st
      rw [r_gI L, bsome, r_gI L, bsome, h4, h5, w32_id (x := n) (by omega) (by omega), w32_id (x := a) (by omega) (by omega), b38 a I1 hh u v]
      by_cases c : a < n
      · rw [if_neg (by omega), r_tp L, bsome, bsome, r_ta L u (by omega), bsome, h6 a u (by omega), w32_id (x := B a) (by omega) (by omega), show w32 32 = 32 from rfl]
        by_cases c2 : B a = 32
        · obtain ⟨I', e1, e2, e3⟩ := ih (a + 1) _ (by omega) (hh.w5 (a + 1)) (by omega) (by omega)
          rw [if_pos c2, bsome, r_pI L, bsome, sk1 ⟨c, c2⟩]
          exact ⟨I', e1, e2, (FRc.put (Or.inl rfl)).trans e3⟩
        · rw [if_neg c2, sk2 (fun g => c2 g.2), if_pos c]
          exact ⟨I1, rfl, hh, FRc.refl⟩
      · rw [if_pos (by omega), sk2 (fun g => c g.1), if_neg c]
        exact ⟨I1, rfl, hh, FRc.refl⟩
  exact key 401 a I (by omega) h h0 h1
theorem x2_counts (L : CL sh x) (h : RC I x B n a deep it) (hi : 0 ≤ it ∧ it ≤ 40) {pl : Int} :
    (it = 40 → FX (s_X2_counts (x + 1) pl (sh, I, J)) sh I J x pl) ∧ (it ≠ 40 → s_X2_counts (x + 1) pl (sh, I, J) = some (.inr (sh, up1 I (x + 1) (upz (I (x + 1)) 7 (it + 1)), J))) := by
  have h7 : I (x + 1) 7 = it := h.2.1.2
  unfold s_X2_counts
  rw [r_gI L, bsome, h7, w32_id (x := it) (by omega) (by omega), show w32 40 = 40 from rfl]
  refine ⟨fun e => ?_, fun e => ?_⟩
  · obtain ⟨I', e1, e2⟩ := x2_fail (I := I) (J := J) L (pl := pl)
    rw [if_pos e, r_ck L, bsome, e1, xb_l]
    exact ⟨I', rfl, e2⟩
  · rw [if_neg e, bsome, r_pI L, bsome]
theorem x2_enters (L : CL sh x) (h : RC I x B n a deep it) (hi : 0 ≤ deep ∧ deep ≤ 6) {pl : Int} :
    (deep = 6 → FX (s_X2_enters (x + 1) pl (sh, I, J)) sh I J x pl) ∧ (deep ≠ 6 → s_X2_enters (x + 1) pl (sh, I, J) = some (.inr (sh, up1 I (x + 1) (upz (I (x + 1)) 6 (deep + 1)), J))) := by
  have h6 : I (x + 1) 6 = deep := h.2.1.1
  unfold s_X2_enters
  rw [r_gI L, bsome, h6, w32_id (x := deep) (by omega) (by omega), show w32 6 = 6 from rfl]
  refine ⟨fun e => ?_, fun e => ?_⟩
  · obtain ⟨I', e1, e2⟩ := x2_fail (I := I) (J := J) L (pl := pl)
    rw [if_pos e, r_ck L, bsome, e1, xb_l]
    exact ⟨I', rfl, e2⟩
  · rw [if_neg e, bsome, r_pI L, bsome]
theorem x2_expect (L : CL sh x) (hn : n ≤ 400) (hB : okB B) (h : RC I x B n a deep it) (h0 : 0 ≤ a) (h1 : a ≤ n) {c : Int} (hc : 0 ≤ c ∧ c < 128) :
    ((skS B n a < n ∧ B (skS B n a) = c) → ∃ I', s_X2_expect (x + 1) c (sh, I, J) = some (.inr (sh, I', J)) ∧ RC I' x B n (skS B n a + 1) deep it ∧ FRc x I I') ∧ (¬(skS B n a < n ∧ B (skS B n a) = c) → FX (s_X2_expect (x + 1) c (sh, I, J)) sh I J x (skS B n a)) := by
  obtain ⟨I1, e1, r1, f1⟩ := x2_sign (J := J) L hn hB h h0 h1
  have sb := sgV_b hB n a
  have sc := sgV_c hB (n := n) (a := a) hc
  have h5 : I1 (x + 1) 5 = skS B n a := r1.1.2
  unfold s_X2_expect
  rw [r_ck L, bsome, e1, bsome]
  dsimp only
  rw [w32_id (x := sgV B n a) (by omega) (by omega), w32_id (x := c) (by omega) (by omega)]
  refine ⟨fun g => ?_, fun g => ?_⟩
  · rw [if_pos (sc.mpr g), r_gI L, bsome, r_pI L, bsome, h5]
    exact ⟨_, rfl, r1.w5 _, f1.trans (FRc.put (Or.inl rfl))⟩
  · rw [if_neg (fun e => g (sc.mp e)), r_gI L, bsome, h5, r_ck L, bsome]
    obtain ⟨I', e2, e3, e4⟩ := x2_fail (I := I1) (J := J) L (pl := skS B n a)
    rw [e2, xb_l]
    exact ⟨I', rfl, e3, f1.trans e4⟩
theorem x2_takesF (L : CL sh x) (hn : n ≤ 400) (hB : okB B) (h : RC I x B n a deep it) (h0 : 0 ≤ a) (h1 : a ≤ n) :
    (((skS B n a < n ∧ B (skS B n a) = 102) ∧ ¬(skS B n a + 1 < n ∧ 97 ≤ B (skS B n a + 1) ∧ B (skS B n a + 1) ≤ 122)) → ∃ I', s_X2_takesF (x + 1) (sh, I, J) = some (1, (sh, I', J)) ∧ RC I' x B n (skS B n a + 1) deep it ∧ FRc x I I') ∧
    (¬((skS B n a < n ∧ B (skS B n a) = 102) ∧ ¬(skS B n a + 1 < n ∧ 97 ≤ B (skS B n a + 1) ∧ B (skS B n a + 1) ≤ 122)) → ∃ I', s_X2_takesF (x + 1) (sh, I, J) = some (0, (sh, I', J)) ∧ FRc x I I') := by
  obtain ⟨I1, e1, r1, f1⟩ := x2_sign (J := J) L hn hB h h0 h1
  have sb := sgV_b hB n a
  have sc := sgV_c hB (n := n) (a := a) (c := 102) (by omega)
  have ss := skS_b (B := B) h0 h1 hn
  have h5 : I1 (x + 1) 5 = skS B n a := r1.1.2
  have h4 : I1 (x + 1) 4 = n := r1.1.1
  have hb := hB (skS B n a + 1)
  obtain ⟨s, hs⟩ : ∃ s, skS B n a = s := ⟨_, rfl⟩
  rw [hs] at h5 r1 sc ss hb ⊢
  have no : s_X2_takesF_b60 (x + 1) (sh, I1, J) = some (0, (sh, I1, J)) := by
    unfold s_X2_takesF_b60 s_X2_takesF_b61
    rw [if_pos (show w32 0 = 0 from rfl), bz2_m (Or.inl rfl), bsome]
  have yes : s_X2_takesF_b56 (x + 1) (sh, I1, J) = some (1, (sh, up1 I1 (x + 1) (upz (I1 (x + 1)) 5 (s + 1)), J)) := by
    unfold s_X2_takesF_b56 s_X2_takesF_b61
    rw [if_neg (show ¬ w32 1 = 0 by decide), r_gI L, bsome, r_pI L, bsome, bz2_m (Or.inr rfl), bsome, h5]
  unfold s_X2_takesF
  rw [r_ck L, bsome, e1, bsome]
  dsimp only
  rw [w32_id (x := sgV B n a) (by omega) (by omega), show w32 102 = 102 from rfl]
  by_cases c1 : s < n ∧ B s = 102
  · rw [if_pos (sc.mpr c1), r_gI L, bsome, r_gI L, bsome, h5, h4, w32_id (x := s + 1) (by omega) (by omega), w32_id (x := n) (by omega) (by omega)]
    by_cases c2 : s + 1 = n
    · rw [if_pos c2, yes]
      exact ⟨fun _ => ⟨_, rfl, r1.w5 _, f1.trans (FRc.put (Or.inl rfl))⟩, fun g => absurd ⟨c1, fun e => by omega⟩ g⟩
    · have tv : I1 (x + 1 + 1) (s + 1) = B (s + 1) := r1.2.2 (s + 1) (by omega) (by omega)
      rw [if_neg c2, r_tp L, bsome, bsome, r_ta L (by omega) (by omega), bsome, tv, w32_id (x := B (s + 1)) (by omega) (by omega), show w32 97 = 97 from rfl, show w32 122 = 122 from rfl]
      by_cases c3 : B (s + 1) < 97
      · rw [if_pos c3, yes]
        exact ⟨fun _ => ⟨_, rfl, r1.w5 _, f1.trans (FRc.put (Or.inl rfl))⟩, fun g => absurd ⟨c1, fun e => by omega⟩ g⟩
      · rw [if_neg c3, bsome, bsome, r_ta L (by omega) (by omega), bsome, tv, w32_id (x := B (s + 1)) (by omega) (by omega)]
        by_cases c4 : B (s + 1) ≤ 122
        · rw [if_pos c4, no]
          exact ⟨fun g => absurd ⟨by omega, by omega, c4⟩ g.2, fun _ => ⟨I1, rfl, f1⟩⟩
        · rw [if_neg c4, yes]
          exact ⟨fun _ => ⟨_, rfl, r1.w5 _, f1.trans (FRc.put (Or.inl rfl))⟩, fun g => absurd ⟨c1, fun e => by omega⟩ g⟩
  · rw [if_neg (fun e => c1 (sc.mp e)), no]
    exact ⟨fun g => absurd g.1 c1, fun _ => ⟨I1, rfl, f1⟩⟩
theorem x2_number (L : CL sh x) (hn : n ≤ 400) (hB : okB B) (h : RC I x B n a deep it) (h0 : 0 ≤ a) (h1 : a ≤ n) {most : Int} (hm : 0 ≤ most ∧ most < 100000) :
    (∀ pl, nmS B n most a = .inl pl → FX (s_X2_number (x + 1) most (sh, I, J)) sh I J x pl) ∧ (∀ r, nmS B n most a = .inr r → ∃ I', s_X2_number (x + 1) most (sh, I, J) = some (.inr (r.1, (sh, I', J))) ∧ RC I' x B n r.2 deep it ∧ FRc x I I') := by
  obtain ⟨I1, e1, r1, f1⟩ := x2_sign (J := J) L hn hB h h0 h1
  have ss := skS_b (B := B) h0 h1 hn
  have dv := dgv_b B n (skS B n a) 401 (skS B n a) 0 (Int.le_refl _) (Int.le_refl _) (by
    rw [show (min (skS B n a - skS B n a) 3).toNat = 0 by omega]
    decide)
  have h5 : I1 (x + 1) 5 = skS B n a := r1.1.2
  unfold nmS
  obtain ⟨s, hs⟩ : ∃ s, skS B n a = s := ⟨_, rfl⟩
  rw [hs] at h5 r1 ss dv ⊢
  have b100 : ∀ (e v : Int) (I2 : Nat → Int → Int), RC I2 x B n e deep it → s ≤ e → e ≤ n → (0 ≤ v ∧ v < 1000) →
      (e = s ∨ most < v → FX (s_X2_number_b100 (x + 1) most s v (sh, I2, J)) sh I2 J x s) ∧ (¬(e = s ∨ most < v) → s_X2_number_b100 (x + 1) most s v (sh, I2, J) = some (.inr (v, (sh, I2, J)))) := by
    intro e v I2 h2 u w z
    have g5 : I2 (x + 1) 5 = e := h2.1.2
    obtain ⟨I', f1, f2⟩ := x2_fail (I := I2) (J := J) L (pl := s)
    unfold s_X2_number_b100
    rw [r_gI L, bsome, g5, w32_id (x := e) (by omega) (by omega), w32_id (x := s) (by omega) (by omega), w32_id (x := v) (by omega) (by omega), w32_id (x := most) (by omega) (by omega)]
    by_cases c : e = s
    · rw [if_pos c, r_ck L, bsome, f1, xb_l]
      exact ⟨fun _ => ⟨I', rfl, f2⟩, fun g => absurd (Or.inl c) g⟩
    · rw [if_neg c]
      by_cases c2 : v ≤ most
      · rw [if_pos c2]
        exact ⟨fun g => by omega, fun _ => rfl⟩
      · rw [if_neg c2, r_ck L, bsome, f1, xb_l]
        exact ⟨fun _ => ⟨I', rfl, f2⟩, fun g => absurd (Or.inr (by omega)) g⟩
  have key : ∀ (k : Nat) (e v : Int) (I2 : Nat → Int → Int), n - e < k → RC I2 x B n e deep it → s ≤ e → e ≤ n → e ≤ s + 3 → 0 ≤ v → v < 10 ^ (min (e - s) 3).toNat →
      (dge B n k e = s ∨ 3 < dge B n k e - s ∨ most < dgv B n s k e v → FX (s_X2_number_l13 (x + 1) most s v (sh, I2, J)) sh I2 J x s) ∧ (¬(dge B n k e = s ∨ 3 < dge B n k e - s ∨ most < dgv B n s k e v) → ∃ I', s_X2_number_l13 (x + 1) most s v (sh, I2, J) = some (.inr (dgv B n s k e v, (sh, I', J))) ∧ RC I' x B n (dge B n k e) deep it ∧ FRc x I2 I') := by
    intro k
    induction k with
    | zero => intro e v I2 hk h2 u w y z z2; omega
    | succ k ih =>
      intro e v I2 hk h2 u w y z z2
      have g5 : I2 (x + 1) 5 = e := h2.1.2
      have g4 : I2 (x + 1) 4 = n := h2.1.1
      have bb := hB e
      have vb : v < 1000 := by
        have h9 : (min (e - s) 3).toNat = 0 ∨ (min (e - s) 3).toNat = 1 ∨ (min (e - s) 3).toNat = 2 ∨ (min (e - s) 3).toNat = 3 := by omega
        rcases h9 with q | q | q | q <;> rw [q] at z2 <;> omega
      have stop : ¬ isD B n e → (s_X2_number_l13 (x + 1) most s v (sh, I2, J) = s_X2_number_b100 (x + 1) most s v (sh, I2, J)) →
          (dge B n (k + 1) e = s ∨ 3 < dge B n (k + 1) e - s ∨ most < dgv B n s (k + 1) e v → FX (s_X2_number_l13 (x + 1) most s v (sh, I2, J)) sh I2 J x s) ∧ (¬(dge B n (k + 1) e = s ∨ 3 < dge B n (k + 1) e - s ∨ most < dgv B n s (k + 1) e v) → ∃ I', s_X2_number_l13 (x + 1) most s v (sh, I2, J) = some (.inr (dgv B n s (k + 1) e v, (sh, I', J))) ∧ RC I' x B n (dge B n (k + 1) e) deep it ∧ FRc x I2 I') := by
        intro hd he
        have d1 : dge B n (k + 1) e = e := if_neg hd
        have d2 : dgv B n s (k + 1) e v = v := if_neg hd
        obtain ⟨p1, p2⟩ := b100 e v I2 h2 u w ⟨z, vb⟩
        rw [d1, d2, he]
        refine ⟨fun g => p1 (by omega), fun g => ⟨I2, p2 (by omega), h2, FRc.refl⟩⟩
      have eb : ∀ q : Option (Ex ⊕ (Int × Me)), ((q.map Sum.inr : Option ((Int × Me) ⊕ (Ex ⊕ (Int × Me)))).bind fun z => z.elim (fun s' : Int × Me => s_X2_number_l13 (x + 1) most s s'.1 s'.2) some) = q := by
        intro q
        cases q <;> rfl
      have el : s_X2_number_l13 (x + 1) most s v (sh, I2, J) = (s_X2_number_l13_st (x + 1) most s v (sh, I2, J)).bind fun z => z.elim (fun s' : Int × Me => s_X2_number_l13 (x + 1) most s s'.1 s'.2) some := by
        unfold s_X2_number_l13
        rw [whileO_eq]
      by_cases c1 : e < n
      · have tv : I2 (x + 1 + 1) e = B e := h2.2.2 e (by omega) (by omega)
        by_cases c2 : B e < 48
        · refine stop (fun g => by omega) ?_
          rw [el]
          unfold s_X2_number_l13_st
          rw [r_gI L, bsome, r_gI L, bsome, g4, g5, w32_id (x := n) (by omega) (by omega), w32_id (x := e) (by omega) (by omega), if_neg (by omega), r_tp L, bsome, bsome, r_ta L (by omega) (by omega), bsome, tv, w32_id (x := B e) (by omega) (by omega), show w32 48 = 48 from rfl, if_pos c2, eb]
        · by_cases c3 : 57 < B e
          · refine stop (fun g => by omega) ?_
            rw [el]
            unfold s_X2_number_l13_st
            rw [r_gI L, bsome, r_gI L, bsome, g4, g5, w32_id (x := n) (by omega) (by omega), w32_id (x := e) (by omega) (by omega), if_neg (by omega), r_tp L, bsome, bsome, r_ta L (by omega) (by omega), bsome, tv, w32_id (x := B e) (by omega) (by omega), show w32 48 = 48 from rfl, if_neg c2, bsome, bsome, r_ta L (by omega) (by omega), bsome, tv, w32_id (x := B e) (by omega) (by omega), show w32 57 = 57 from rfl, if_pos c3, eb]
          · have hd : isD B n e := ⟨c1, by omega, by omega⟩
            have d1 : dge B n (k + 1) e = dge B n k (e + 1) := if_pos hd
            have d2 : dgv B n s (k + 1) e v = dgv B n s k (e + 1) (if e - s < 3 then 10 * v + B e - 48 else v) := if_pos hd
            have st : s_X2_number_l13 (x + 1) most s v (sh, I2, J) = (if e - s = 3 then ((xb (s_X2_fail (x + 1) s (sh, I2, J)) (fun e32 => (some (.inr (.inl e32)) : Option ((Int × Me) ⊕ (Ex ⊕ (Int × Me))))) fun q31 => s_X2_number_b67 (x + 1) most s v q31).bind fun z => z.elim (fun s' : Int × Me => s_X2_number_l13 (x + 1) most s s'.1 s'.2) some) else (s_X2_number_b67 (x + 1) most s v (sh, I2, J)).bind fun z => z.elim (fun s' : Int × Me => s_X2_number_l13 (x + 1) most s s'.1 s'.2) some) := by
              rw [el]
              unfold s_X2_number_l13_st
              rw [r_gI L, bsome, r_gI L, bsome, g4, g5, w32_id (x := n) (by omega) (by omega), w32_id (x := e) (by omega) (by omega), if_neg (by omega), r_tp L, bsome, bsome, r_ta L (by omega) (by omega), bsome, tv, w32_id (x := B e) (by omega) (by omega), show w32 48 = 48 from rfl, if_neg c2, bsome, bsome, r_ta L (by omega) (by omega), bsome, tv, w32_id (x := B e) (by omega) (by omega), show w32 57 = 57 from rfl, if_neg c3, bsome, w32_id (x := e - s) (by omega) (by omega), show w32 3 = 3 from rfl]
              by_cases c4 : e - s = 3
              · rw [if_pos c4, if_pos c4, r_ck L, bsome]
              · rw [if_neg c4, if_neg c4]
            rw [st, d1, d2]
            by_cases c4 : e - s = 3
            · have db := dge_b B n k (e + 1)
              obtain ⟨I', q1, q2⟩ := x2_fail (I := I2) (J := J) L (pl := s)
              rw [if_pos c4, q1, xb_l]
              exact ⟨fun _ => ⟨I', rfl, q2⟩, fun g => absurd (Or.inr (Or.inl (by omega))) g⟩
            · rw [if_neg c4, if_pos (by omega)]
              have b67 : s_X2_number_b67 (x + 1) most s v (sh, I2, J) = some (.inl (10 * v + B e - 48, (sh, up1 I2 (x + 1) (upz (I2 (x + 1)) 5 (e + 1)), J))) := by
                unfold s_X2_number_b67
                rw [r_tp L, bsome, r_gI L, bsome, g5, r_ta L (by omega) (by omega), bsome, tv, bsome, r_pI L, bsome]
              rw [b67]
              have z3 : 10 * v + B e - 48 < 10 ^ (min (e + 1 - s) 3).toNat := by
                have h9 : (min (e - s) 3).toNat = 0 ∨ (min (e - s) 3).toNat = 1 ∨ (min (e - s) 3).toNat = 2 := by omega
                rcases h9 with q | q | q <;> rw [q] at z2
                · rw [show (min (e + 1 - s) 3).toNat = 1 by omega]; omega
                · rw [show (min (e + 1 - s) 3).toNat = 2 by omega]; omega
                · rw [show (min (e + 1 - s) 3).toNat = 3 by omega]; omega
              obtain ⟨p1, p2⟩ := ih (e + 1) (10 * v + B e - 48) _ (by omega) (h2.w5 (e + 1)) (by omega) (by omega) (by omega) (by omega) z3
              refine ⟨fun g => (p1 g).pre (FRc.put (Or.inl rfl)), fun g => ?_⟩
              obtain ⟨I', q1, q2, q3⟩ := p2 g
              exact ⟨I', q1, q2, (FRc.put (Or.inl rfl)).trans q3⟩
      · refine stop (fun g => c1 g.1) ?_
        rw [el]
        unfold s_X2_number_l13_st
        rw [r_gI L, bsome, r_gI L, bsome, g4, g5, w32_id (x := n) (by omega) (by omega), w32_id (x := e) (by omega) (by omega), if_pos (by omega), eb]
  obtain ⟨p1, p2⟩ := key 401 s 0 I1 (by omega) r1 (Int.le_refl _) ss.2.1 (by omega) (by omega) (by rw [show (min (s - s) 3).toNat = 0 by omega]; decide)
  have run : s_X2_number (x + 1) most (sh, I, J) = s_X2_number_l13 (x + 1) most s 0 (sh, I1, J) := by
    unfold s_X2_number
    rw [r_ck L, bsome, e1, bsome]
    dsimp only
    rw [r_gI L, bsome, h5]
  rw [run]
  by_cases c : dge B n 401 s = s ∨ 3 < dge B n 401 s - s ∨ most < dgv B n s 401 s 0
  · rw [if_pos c]
    refine ⟨fun pl h9 => ?_, fun r h9 => (by cases h9)⟩
    rw [← Sum.inl.inj h9]
    exact (p1 c).pre f1
  · rw [if_neg c]
    refine ⟨fun pl h9 => (by cases h9), fun r h9 => ?_⟩
    rw [← Sum.inr.inj h9]
    obtain ⟨I', q1, q2, q3⟩ := p2 c
    exact ⟨I', q1, q2, f1.trans q3⟩
end CR1
