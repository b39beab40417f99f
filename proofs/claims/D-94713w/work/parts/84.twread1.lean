/-! the twin: the reader -/
set_option maxRecDepth 100000
abbrev okB (B : Int → Int) : Prop := ∀ j : Int, -128 ≤ B j ∧ B j < 128
/-- steps lie in the draft from the i-th on -/
def DRt (W : Int → Int) : Int → List (Int × Int) → Prop
  | _, [] => True
  | i, o :: r => (W (3607 + 2 * i) = o.1 ∧ W (3608 + 2 * i) = o.2) ∧ DRt W (i + 1) r
theorem DRt_app {W : Int → Int} : ∀ {i : Int} {a b : List (Int × Int)}, DRt W i (a ++ b) ↔ DRt W i a ∧ DRt W (i + a.length) b
  | i, [], b => by
    show DRt W i b ↔ True ∧ DRt W (i + ((0 : Nat) : Int)) b
    rw [show i + ((0 : Nat) : Int) = i by omega]
    exact ⟨fun h => ⟨trivial, h⟩, fun h => h.2⟩
  | i, o :: a, b => by
    have := DRt_app (W := W) (i := i + 1) (a := a) (b := b)
    rw [show i + 1 + (a.length : Int) = i + ((a.length + 1 : Nat) : Int) by omega] at this
    show (_ ∧ DRt W (i + 1) (a ++ b)) ↔ (_ ∧ DRt W (i + 1) a) ∧ DRt W (i + ((a.length + 1 : Nat) : Int)) b
    rw [this]
    exact ⟨fun ⟨h1, h2, h3⟩ => ⟨⟨h1, h2⟩, h3⟩, fun ⟨⟨h1, h2⟩, h3⟩ => ⟨h1, h2, h3⟩⟩
theorem DRt_eq {W W' : Int → Int} : ∀ {i : Int} {a : List (Int × Int)}, DRt W i a → (∀ j : Int, j < 3607 + 2 * (i + a.length) → W' j = W j) → DRt W' i a
  | _, [], _, _ => trivial
  | i, o :: a, h, hj => by
    have hl : (((o :: a).length : Nat) : Int) = a.length + 1 := by simp
    rw [hl] at hj
    refine ⟨⟨by rw [hj _ (by omega)]; exact h.1.1, by rw [hj _ (by omega)]; exact h.1.2⟩, DRt_eq h.2 (fun j h9 => hj j (by omega))⟩
/-- the reader's numbers -/
def RS (I : Nat → Int → Int) (m : Nat) (n : Int) (B : Int → Int) (at_ deep it st bg : Int) : Prop := (I m 12 = at_ ∧ I m 13 = n ∧ I m 14 = bg) ∧ (I m 15 = deep ∧ I m 16 = it ∧ I m 19 = st) ∧ I (m + 5) = B
/-- what reading leaves -/
def FR (m : Nat) (I I' : Nat → Int → Int) (st : Int) : Prop := (∀ a : Nat, a ≠ m → a ≠ m + 1 → I' a = I a) ∧ (∀ k : Int, (k ≠ 12 ∧ k ≠ 14 ∧ k ≠ 15 ∧ k ≠ 16 ∧ k ≠ 19) → I' m k = I m k) ∧ ∀ j : Int, j < 3607 + 2 * st → I' (m + 1) j = I (m + 1) j
theorem FR.refl {m : Nat} {I : Nat → Int → Int} {st : Int} : FR m I I st := ⟨fun _ _ _ => rfl, fun _ _ => rfl, fun _ _ => rfl⟩
theorem FR.le {m : Nat} {I I' : Nat → Int → Int} {st st' : Int} (h : FR m I I' st) (hs : st' ≤ st) : FR m I I' st' := ⟨h.1, h.2.1, fun j hj => h.2.2 j (by omega)⟩
theorem FR.le2 {m : Nat} {I I' I2 : Nat → Int → Int} {st st' : Int} (h : FR m I I' st) (hs : st' ≤ st) (h2 : FR m I' I2 st') : FR m I I2 st' := ⟨fun a x y => (h2.1 a x y).trans (h.1 a x y), fun k x => (h2.2.1 k x).trans (h.2.1 k x), fun j hj => (h2.2.2 j hj).trans (h.2.2 j (by omega))⟩
section TRd
variable {sh : Sh} {I J : Nat → Int → Int} {m : Nat}
theorem FR.own {k v st : Int} (h : k = 12 ∨ k = 14 ∨ k = 15 ∨ k = 16 ∨ k = 19) : FR m I (up1 I m (upz (I m) k v)) st :=
  ⟨fun a x _ => up1_n _ _ x, fun j hj => by rw [up1_s, upz_n _ _ (by omega)], fun j _ => by rw [up1_n _ _ (by omega)]⟩
theorem RS.w12 {n : Int} {B : Int → Int} {a deep it st bg : Int} (h : RS I m n B a deep it st bg) (v : Int) : RS (up1 I m (upz (I m) 12 v)) m n B v deep it st bg := by
  obtain ⟨⟨h1, h2, h3⟩, ⟨h4, h5, h6⟩, h7⟩ := h
  unfold RS
  rw [up1_s, upz_s, upz_n _ _ (by decide), upz_n _ _ (by decide), upz_n _ _ (by decide), upz_n _ _ (by decide), upz_n _ _ (by decide), up1_n _ _ (by omega)]
  exact ⟨⟨rfl, h2, h3⟩, ⟨h4, h5, h6⟩, h7⟩
theorem RS.w14 {n : Int} {B : Int → Int} {a deep it st bg : Int} (h : RS I m n B a deep it st bg) (v : Int) : RS (up1 I m (upz (I m) 14 v)) m n B a deep it st v := by
  obtain ⟨⟨h1, h2, h3⟩, ⟨h4, h5, h6⟩, h7⟩ := h
  unfold RS
  rw [up1_s, upz_s, upz_n _ _ (by decide), upz_n _ _ (by decide), upz_n _ _ (by decide), upz_n _ _ (by decide), upz_n _ _ (by decide), up1_n _ _ (by omega)]
  exact ⟨⟨h1, h2, rfl⟩, ⟨h4, h5, h6⟩, h7⟩
theorem RS.w15 {n : Int} {B : Int → Int} {a deep it st bg : Int} (h : RS I m n B a deep it st bg) (v : Int) : RS (up1 I m (upz (I m) 15 v)) m n B a v it st bg := by
  obtain ⟨⟨h1, h2, h3⟩, ⟨h4, h5, h6⟩, h7⟩ := h
  unfold RS
  rw [up1_s, upz_s, upz_n _ _ (by decide), upz_n _ _ (by decide), upz_n _ _ (by decide), upz_n _ _ (by decide), upz_n _ _ (by decide), up1_n _ _ (by omega)]
  exact ⟨⟨h1, h2, h3⟩, ⟨rfl, h5, h6⟩, h7⟩
theorem RS.w16 {n : Int} {B : Int → Int} {a deep it st bg : Int} (h : RS I m n B a deep it st bg) (v : Int) : RS (up1 I m (upz (I m) 16 v)) m n B a deep v st bg := by
  obtain ⟨⟨h1, h2, h3⟩, ⟨h4, h5, h6⟩, h7⟩ := h
  unfold RS
  rw [up1_s, upz_s, upz_n _ _ (by decide), upz_n _ _ (by decide), upz_n _ _ (by decide), upz_n _ _ (by decide), upz_n _ _ (by decide), up1_n _ _ (by omega)]
  exact ⟨⟨h1, h2, h3⟩, ⟨h4, rfl, h6⟩, h7⟩
theorem t_isAt (T : TL sh m) {n : Int} {B : Int → Int} (hn : n ≤ 400) (hB : okB B) {a deep it st bg : Int} (h : RS I m n B a deep it st bg) (h0 : 0 ≤ a) (h1 : a ≤ n) {lo hi : Int} (hlo : i32 lo) (hhi : i32 hi) :
    s_X11_isAt m lo hi (sh, I, J) = some (if a < n ∧ lo ≤ B a ∧ B a ≤ hi then 1 else 0, (sh, I, J)) := by
  obtain ⟨⟨h12, h13, h14⟩, -, h5⟩ := h
  have hb := hB a
  unfold s_X11_isAt
  simp (disch := omega) only [t_gI T, bsome, h12, h13, w32_id (x := n), w32_id (x := a)]
  by_cases hc : n ≤ a
  · rw [if_pos hc, if_neg (by omega)]
  · rw [if_neg hc]
    simp (disch := omega) only [bsome, t_ck T, t_gI T, t_pI T, t_gJ T, t_pJ T, tR_tape T, tA_tape T, tU_tape T, h12, h5, w32_id (x := B a)]
    rw [w32_id hlo.1 hlo.2, w32_id hhi.1 hhi.2]
    by_cases h2 : B a < lo
    · rw [if_pos h2, if_neg (by omega)]
    · rw [if_neg h2]
      by_cases h3 : hi < B a
      · rw [if_pos h3, if_neg (by omega)]
      · rw [if_neg h3, if_pos (by omega)]
theorem t_blanks (T : TL sh m) {n : Int} {B : Int → Int} (hn : n ≤ 400) (hB : okB B) : ∀ (k : Nat) {I : Nat → Int → Int} {a deep it st bg : Int}, RS I m n B a deep it st bg → 0 ≤ a → a ≤ n → n - a < k → ∃ I', s_X11_blanks m (sh, I, J) = some (sh, I', J) ∧ RS I' m n B (skp B n k a) deep it st (skp B n k a) ∧ FR m I I' st
  | 0, I, a, deep, it, st, bg, h, h0, h1, h2 => by omega
  | k + 1, I, a, deep, it, st, bg, h, h0, h1, h2 => by
    have e1 := t_isAt (J := J) T hn hB h h0 h1 (lo := 32) (hi := 32) ⟨by omega, by omega⟩ ⟨by omega, by omega⟩
    unfold s_X11_blanks skp
    rw [e_X11_blanks_l0]
    unfold s_X11_blanks_l0_st
    rw [t_ck T, bsome, e1, bsome]
    dsimp only
    by_cases hc : a < n ∧ B a = 32
    · rw [if_pos hc, if_pos (show a < n ∧ 32 ≤ B a ∧ B a ≤ 32 by omega), if_neg (show ¬ w32 1 = 0 by decide), t_gI T, bsome, t_pI T, bsome, h.1.1]
      obtain ⟨I', e2, r2, f2⟩ := t_blanks T hn hB k (h.w12 (a + 1)) (by omega) (by omega) (by omega)
      exact ⟨I', e2, r2, (FR.own (Or.inl rfl)).le2 (Int.le_refl _) f2⟩
    · rw [if_neg hc, if_neg (show ¬(a < n ∧ 32 ≤ B a ∧ B a ≤ 32) by omega), if_pos (show w32 0 = 0 from rfl)]
      unfold s_X11_blanks_b24
      rw [t_gI T, bsome, t_pI T, bsome, h.1.1]
      exact ⟨_, rfl, h.w14 a, FR.own (Or.inr (Or.inl rfl))⟩
theorem t_blk (T : TL sh m) {n : Int} {B : Int → Int} (hn : n ≤ 400) (hB : okB B) {a deep it st bg : Int} (h : RS I m n B a deep it st bg) (h0 : 0 ≤ a) (h1 : a ≤ n) : ∃ I', s_X11_blanks m (sh, I, J) = some (sh, I', J) ∧ RS I' m n B (skS B n a) deep it st (skS B n a) ∧ FR m I I' st :=
  t_blanks T hn hB 401 h h0 h1 (by omega)
theorem t_has (T : TL sh m) {n : Int} {B : Int → Int} (hn : n ≤ 400) (hB : okB B) {a deep it st bg : Int} (h : RS I m n B a deep it st bg) (h0 : 0 ≤ a) (h1 : a ≤ n) {c : Int} (hc : i32 c) :
    (¬(skS B n a < n ∧ B (skS B n a) = c) → ∃ I', s_X11_has m c (sh, I, J) = some (0, (sh, I', J)) ∧ RS I' m n B (skS B n a) deep it st (skS B n a) ∧ FR m I I' st) ∧
    ((skS B n a < n ∧ B (skS B n a) = c) → ∃ I', s_X11_has m c (sh, I, J) = some (1, (sh, I', J)) ∧ RS I' m n B (skS B n a + 1) deep it st (skS B n a) ∧ FR m I I' st) := by
  have s := skS_b (B := B) h0 h1 hn
  obtain ⟨I1, e1, r1, f1⟩ := t_blk (J := J) T hn hB h h0 h1
  have e2 := t_isAt (J := J) T hn hB r1 (by omega) s.2.1 hc hc
  unfold s_X11_has
  rw [t_ck T, bsome, e1, bsome, t_ck T, bsome, e2, bsome]
  dsimp only
  refine ⟨fun g => ?_, fun g => ?_⟩
  · rw [if_neg (show ¬(skS B n a < n ∧ c ≤ B (skS B n a) ∧ B (skS B n a) ≤ c) by omega), if_pos (show w32 0 = 0 from rfl)]
    exact ⟨I1, rfl, r1, f1⟩
  · rw [if_pos (show skS B n a < n ∧ c ≤ B (skS B n a) ∧ B (skS B n a) ≤ c by omega), if_neg (show ¬ w32 1 = 0 by decide), t_gI T, bsome, t_pI T, bsome, r1.1.1]
    exact ⟨_, rfl, r1.w12 _, f1.le2 (Int.le_refl _) (FR.own (Or.inl rfl))⟩
theorem t_counts (T : TL sh m) {n : Int} {B : Int → Int} (hn : n ≤ 400) (hB : okB B) {a deep it st bg : Int} (h : RS I m n B a deep it st bg) (h0 : 0 ≤ a) (h1 : a ≤ n) (hit : 0 ≤ it ∧ it ≤ 40) {c : Int} (hc : -1000 ≤ c ∧ c ≤ 1000) :
    (¬(skS B n a < n ∧ B (skS B n a) = c) → ∃ I', s_X11_counts m c (sh, I, J) = some (0, (sh, I', J)) ∧ RS I' m n B (skS B n a) deep it st (skS B n a) ∧ FR m I I' st) ∧
    ((skS B n a < n ∧ B (skS B n a) = c) → it = 40 → ∃ I', s_X11_counts m c (sh, I, J) = some (0, (sh, I', J)) ∧ RS I' m n B (skS B n a) deep it st (skS B n a) ∧ FR m I I' st) ∧
    ((skS B n a < n ∧ B (skS B n a) = c) → ¬ it = 40 → ∃ I', s_X11_counts m c (sh, I, J) = some (1, (sh, I', J)) ∧ RS I' m n B (skS B n a + 1) deep (it + 1) st (skS B n a) ∧ FR m I I' st) := by
  have s := skS_b (B := B) h0 h1 hn
  obtain ⟨I1, e1, r1, f1⟩ := t_blk (J := J) T hn hB h h0 h1
  have e2 := t_isAt (J := J) T hn hB r1 (by omega) s.2.1 (lo := c) (hi := c) ⟨by omega, by omega⟩ ⟨by omega, by omega⟩
  unfold s_X11_counts
  rw [t_ck T, bsome, e1, bsome, t_ck T, bsome, e2, bsome]
  dsimp only
  refine ⟨fun g => ?_, fun g g2 => ?_, fun g g2 => ?_⟩
  · rw [if_neg (show ¬(skS B n a < n ∧ c ≤ B (skS B n a) ∧ B (skS B n a) ≤ c) by omega), if_pos (show w32 0 = 0 from rfl)]
    exact ⟨I1, rfl, r1, f1⟩
  · rw [if_pos (show skS B n a < n ∧ c ≤ B (skS B n a) ∧ B (skS B n a) ≤ c by omega), if_neg (show ¬ w32 1 = 0 by decide), t_gI T, bsome, r1.2.1.2.1, g2, if_pos (show w32 40 = w32 40 from rfl)]
    rw [g2] at r1
    exact ⟨I1, rfl, r1, f1⟩
  · rw [if_pos (show skS B n a < n ∧ c ≤ B (skS B n a) ∧ B (skS B n a) ≤ c by omega), if_neg (show ¬ w32 1 = 0 by decide), t_gI T, bsome, r1.2.1.2.1, w32_id (x := it) (by omega) (by omega), show w32 40 = 40 from rfl, if_neg g2, t_gI T, bsome, t_pI T, bsome, r1.1.1, t_gI T, bsome, t_pI T, bsome]
    have r2 := r1.w12 (skS B n a + 1)
    rw [r2.2.1.2.1]
    exact ⟨_, rfl, r2.w16 _, (f1.le2 (Int.le_refl _) (FR.own (Or.inl rfl))).le2 (Int.le_refl _) (FR.own (Or.inr (Or.inr (Or.inr (Or.inl rfl)))))⟩
theorem t_emits (T : TL sh m) {n : Int} {B : Int → Int} {a deep it st bg o v : Int} (h : RS I m n B a deep it st bg) (h0 : 0 ≤ st) (h1 : st ≤ 199) :
    ∃ I', s_X11_emits m o v (sh, I, J) = some (1, (sh, I', J)) ∧ RS I' m n B a deep it (st + 1) bg ∧ I' (m + 1) (3607 + 2 * st) = o ∧ I' (m + 1) (3608 + 2 * st) = v ∧ FR m I I' st := by
  have h' := h
  obtain ⟨⟨h12, h13, h14⟩, ⟨h15, h16, h19⟩, h5⟩ := h'
  unfold s_X11_emits
  simp (disch := omega) only [bsome, t_ck T, t_gI T, t_pI T, t_gJ T, t_pJ T, tR_world T, tA_world T, tU_world T, h19, up1_n, up1_up1, up1_s]
  refine ⟨_, rfl, ⟨⟨?_, ?_, ?_⟩, ⟨?_, ?_, ?_⟩, ?_⟩, ?_, ?_, fun a x y => ?_, fun k hk => ?_, fun j hj => ?_⟩
  · rw [up1_s, upz_n _ _ (by decide), h12]
  · rw [up1_s, upz_n _ _ (by decide), h13]
  · rw [up1_s, upz_n _ _ (by decide), h14]
  · rw [up1_s, upz_n _ _ (by decide), h15]
  · rw [up1_s, upz_n _ _ (by decide), h16]
  · rw [up1_s, upz_s]
  · rw [up1_n _ _ (by omega), up1_n _ _ (by omega), h5]
  · rw [up1_n _ _ (by omega), up1_s, upz_n _ _ (by omega), upz_s]
  · rw [up1_n _ _ (by omega), up1_s, upz_s]
  · rw [up1_n _ _ x, up1_n _ _ y]
  · rw [up1_s, upz_n _ _ (by omega)]
  · rw [up1_n _ _ (by omega), up1_s, upz_n _ _ (by omega), upz_n _ _ (by omega)]
theorem t_number (T : TL sh m) {n : Int} {B : Int → Int} (hn : n ≤ 400) (hB : okB B) {a deep it st bg most : Int} (h : RS I m n B a deep it st bg) (h0 : 0 ≤ a) (h1 : a ≤ n) (hm : 0 ≤ most ∧ most ≤ 1000) :
    (∀ pl, nmS B n most a = .inl pl → ∃ I', s_X11_number m most (sh, I, J) = some (-1, (sh, I', J)) ∧ I' m 14 = pl ∧ FR m I I' st) ∧
    (∀ r, nmS B n most a = .inr r → ∃ I' bg', s_X11_number m most (sh, I, J) = some (r.1, (sh, I', J)) ∧ RS I' m n B r.2 deep it st bg' ∧ FR m I I' st) := by
  have s := skS_b (B := B) h0 h1 hn
  obtain ⟨I1, e1, r1, f1⟩ := t_blk (J := J) T hn hB h h0 h1
  obtain ⟨b, hb⟩ : ∃ b, skS B n a = b := ⟨_, rfl⟩
  have key : ∀ (k : Nat) (x v : Int) (I2 : Nat → Int → Int), n - x < k → b ≤ x → x ≤ n → RS I2 m n B x deep it st b → FR m I I2 st → ∃ I', s_X11_number_l6 m most v (sh, I2, J) = s_X11_number_b65 m most (dgv B n b k x v) (sh, I', J) ∧ RS I' m n B (dge B n k x) deep it st b ∧ FR m I I' st := by
    intro k
    induction k with
    | zero => intro x v I2 h2 h3 h4; omega
    | succ k ih =>
      intro x v I2 h2 h3 h4 r2 f2
      have e2 := t_isAt (J := J) T hn hB r2 (by omega) h4 (lo := 48) (hi := 57) ⟨by omega, by omega⟩ ⟨by omega, by omega⟩
      have bx := hB x
      rw [e_X11_number_l6]
      unfold s_X11_number_l6_st dgv dge
      rw [t_ck T, bsome, e2, bsome]
      dsimp only
      by_cases hc : isD B n x
      · rw [if_pos hc, if_pos hc, if_pos hc, if_neg (show ¬ w32 1 = 0 by decide)]
        have hxn : x < n := hc.1
        simp (disch := omega) only [t_gI T, bsome, r2.1.1, r2.1.2.2, w32_id (x := 3), w32_id (x := x - b)]
        by_cases h9 : x - b < 3
        · rw [if_neg (by omega), if_pos h9]
          simp (disch := omega) only [bsome, t_ck T, t_gI T, t_pI T, t_gJ T, t_pJ T, tR_tape T, tA_tape T, tU_tape T, r2.1.1, r2.2.2]
          obtain ⟨I3, e3, r3, f3⟩ := ih (x + 1) (10 * v + B x - 48) _ (by omega) (by omega) (by omega) (r2.w12 (x + 1)) (f2.le2 (Int.le_refl _) (FR.own (Or.inl rfl)))
          exact ⟨I3, e3, r3, f3⟩
        · rw [if_pos (by omega), if_neg h9]
          simp (disch := omega) only [t_gI T, t_pI T, bsome, r2.1.1]
          obtain ⟨I3, e3, r3, f3⟩ := ih (x + 1) v _ (by omega) (by omega) (by omega) (r2.w12 (x + 1)) (f2.le2 (Int.le_refl _) (FR.own (Or.inl rfl)))
          exact ⟨I3, e3, r3, f3⟩
      · rw [if_neg hc, if_neg hc, if_neg hc, if_pos (show w32 0 = 0 from rfl)]
        refine ⟨I2, ?_, r2, f2⟩
        cases s_X11_number_b65 m most v (sh, I2, J) <;> rfl
  rw [hb] at r1 s
  obtain ⟨I2, e2, r2, f2⟩ := key 401 b 0 I1 (by omega) (Int.le_refl _) s.2.1 r1 f1
  have dv := dgv_b B n b 401 b 0 (Int.le_refl _) (Int.le_refl _) (by
    rw [show (min (b - b) 3).toNat = 0 by omega]
    decide)
  have de := dge_b B n 401 b
  have de2 := de.2 s.2.1
  unfold nmS
  rw [hb]
  obtain ⟨v, hv⟩ : ∃ v, dgv B n b 401 b 0 = v := ⟨_, rfl⟩
  obtain ⟨e, he⟩ : ∃ e, dge B n 401 b = e := ⟨_, rfl⟩
  rw [hv] at dv e2 ⊢
  rw [he] at de de2 r2 ⊢
  have run : s_X11_number m most (sh, I, J) = s_X11_number_b65 m most v (sh, I2, J) := by
    unfold s_X11_number
    rw [t_ck T, bsome, e1, bsome]
    exact e2
  rw [run]
  unfold s_X11_number_b65
  simp (disch := omega) only [t_gI T, bsome, r2.1.1, r2.1.2.2, w32_id (x := e), w32_id (x := b), w32_id (x := e - b), w32_id (x := 3), w32_id (x := v), w32_id (x := most)]
  by_cases h2 : e = b
  · rw [if_pos h2, if_pos (Or.inl h2)]
    exact ⟨fun pl hp => ⟨I2, rfl, by rw [r2.1.2.2]; exact Sum.inl.inj hp, f2⟩, fun r hr => by cases hr⟩
  rw [if_neg h2]
  by_cases h3 : 3 < e - b
  · rw [if_pos h3, if_pos (Or.inr (Or.inl h3))]
    exact ⟨fun pl hp => ⟨I2, rfl, by rw [r2.1.2.2]; exact Sum.inl.inj hp, f2⟩, fun r hr => by cases hr⟩
  rw [if_neg h3]
  by_cases h4 : v ≤ most
  · rw [if_pos h4, if_neg (by omega)]
    refine ⟨fun pl hp => (by cases hp), fun r hr => ?_⟩
    rw [← Sum.inr.inj hr]
    exact ⟨I2, b, rfl, r2, f2⟩
  · rw [if_neg h4, if_pos (Or.inr (Or.inr (by omega)))]
    exact ⟨fun pl hp => ⟨I2, rfl, by rw [r2.1.2.2]; exact Sum.inl.inj hp, f2⟩, fun r hr => by cases hr⟩
theorem t_deeper (T : TL sh m) {n : Int} {B : Int → Int} {a deep it st bg : Int} (h : RS I m n B a deep it st bg) (hd : 0 ≤ deep ∧ deep ≤ 6) :
    (deep = 6 → s_X11_deeper m (sh, I, J) = some (0, (sh, I, J))) ∧ (deep ≠ 6 → ∃ I', s_X11_deeper m (sh, I, J) = some (1, (sh, I', J)) ∧ RS I' m n B a (deep + 1) it st bg ∧ FR m I I' st) := by
  unfold s_X11_deeper
  rw [t_gI T, bsome, h.2.1.1, w32_id (x := deep) (by omega) (by omega), show w32 6 = 6 from rfl]
  refine ⟨fun g => by rw [if_pos g], fun g => ?_⟩
  rw [if_neg g, bsome, t_pI T, bsome]
  exact ⟨_, rfl, h.w15 _, FR.own (Or.inr (Or.inr (Or.inl rfl)))⟩
/-- what reading by so much fuel does -/
def RdOk (sh : Sh) (J : Nat → Int → Int) (m : Nat) (n : Int) (B : Int → Int) (f : Nat) : Prop :=
  ∀ (tag : Nat) (I : Nat → Int → Int) (a deep it st bg : Int), RS I m n B a deep it st bg → 0 ≤ a → a ≤ n → (0 ≤ deep ∧ deep ≤ 6) → (0 ≤ it ∧ it ≤ 40) → (0 ≤ st ∧ st ≤ 4 * it) → ((tag = 0 ∧ 4 * (6 - deep) + 4 ≤ f) ∨ (tag = 1 ∧ 4 * (6 - deep) + 3 ≤ f ∨ tag = 3 ∧ 4 * (6 - deep) + 1 ≤ f) ∨ (tag = 2 ∧ 4 * (6 - deep) + 2 ≤ f)) → (tag = 3 → bg = a - 1) →
    (∀ r, prR false B n f tag a deep it = .inr r → ∃ I' bg', s_rd f tag m (sh, I, J) = some (1, (sh, I', J)) ∧ RS I' m n B r.2.1 deep r.2.2 (st + (pst r.1).length) bg' ∧ DRt (I' (m + 1)) st (pst r.1) ∧ FR m I I' st) ∧
    (∀ pl, prR false B n f tag a deep it = .inl pl → ∃ I', s_rd f tag m (sh, I, J) = some (0, (sh, I', J)) ∧ I' m 14 = pl ∧ FR m I I' st)
theorem t_lpProduct (T : TL sh m) {n : Int} {B : Int → Int} (hn : n ≤ 400) (hB : okB B) {f : Nat} (IH : RdOk sh J m n B f) {deep : Int} (hd : 0 ≤ deep ∧ deep ≤ 6) (hf : 4 * (6 - deep) + 2 ≤ f) :
    ∀ (k : Nat) (t : TT) (a it st0 bg : Int) (I : Nat → Int → Int), n - a < k → 0 ≤ a → a ≤ n → 0 ≤ it → it ≤ 40 → 0 ≤ st0 → st0 + (pst t).length ≤ 4 * it + 3 → wfs t → RS I m n B a deep it (st0 + (pst t).length) bg → DRt (I (m + 1)) st0 (pst t) →
      (∀ r, lpR false B n 42 3 (fun a i => prR false B n f 2 a deep i) k t a it = .inr r → ∃ I' bg', s_X11_readProduct_l9 (s_rd f) m (sh, I, J) = some (1, (sh, I', J)) ∧ RS I' m n B r.2.1 deep r.2.2 (st0 + (pst r.1).length) bg' ∧ DRt (I' (m + 1)) st0 (pst r.1) ∧ FR m I I' st0) ∧
      (∀ pl, lpR false B n 42 3 (fun a i => prR false B n f 2 a deep i) k t a it = .inl pl → ∃ I', s_X11_readProduct_l9 (s_rd f) m (sh, I, J) = some (0, (sh, I', J)) ∧ I' m 14 = pl ∧ FR m I I' st0)
  | 0, t, a, it, st0, bg, I, hk, h0, h1, _, _, _, _, _, _, _ => by omega
  | k + 1, t, a, it, st0, bg, I, hk, h0, h1, i0, i1, s0, hst, hwf, hR, hD => by
    have s := skS_b (B := B) h0 h1 hn
    obtain ⟨c1, c2, c3⟩ := t_counts (J := J) T hn hB hR h0 h1 ⟨i0, i1⟩ (c := 42) (by decide)
    unfold lpR
    by_cases hc : skS B n a < n ∧ B (skS B n a) = 42
    · rw [if_pos hc]
      by_cases h40 : it = 40
      · rw [if_pos h40, if_neg (by decide)]
        obtain ⟨I1, e1, r1, f1⟩ := c2 hc h40
        refine ⟨fun r hr => ?_, fun pl hr => by cases hr⟩
        rw [← Sum.inr.inj hr]
        refine ⟨I1, _, ?_, r1, DRt_eq hD (fun j hj => f1.2.2 j (by omega)), f1.le (by omega)⟩
        rw [e_X11_readProduct_l9]
        unfold s_X11_readProduct_l9_st
        rw [t_ck T, bsome, e1, bsome]
        rfl
      · rw [if_neg h40]
        obtain ⟨I1, e1, r1, f1⟩ := c3 hc h40
        have D1 := DRt_eq hD (fun j hj => f1.2.2 j (by omega))
        obtain ⟨g1, g2⟩ := IH 2 I1 (skS B n a + 1) deep (it + 1) (st0 + (pst t).length) (skS B n a) r1 (by omega) (by omega) hd ⟨by omega, by omega⟩ ⟨by omega, by omega⟩ (Or.inr (Or.inr ⟨rfl, hf⟩)) (fun h => absurd h (by decide))
        have hq9 := prR_ok (hard := false) (B := B) hn f 2 (skS B n a + 1) deep (it + 1) (by omega) (by omega) hd ⟨by omega, by omega⟩
        cases hq : prR false B n f 2 (skS B n a + 1) deep (it + 1) with
        | inl pl =>
          obtain ⟨I2, e2, b2, f2⟩ := g2 pl hq
          refine ⟨fun r hr => (by cases hr), fun pl' hr => ?_⟩
          refine ⟨I2, ?_, by rw [b2]; exact Sum.inl.inj hr, f1.le2 (by omega) (f2.le (by omega))⟩
          rw [e_X11_readProduct_l9]
          unfold s_X11_readProduct_l9_st
          rw [t_ck T, bsome, e1, bsome]
          dsimp only
          rw [if_neg (show ¬ w32 1 = 0 by decide), t_ck T, bsome, e2, bsome]
          rfl
        | inr q =>
          obtain ⟨I2, bg2, e2, r2, d2, f2⟩ := g1 q hq
          obtain ⟨q1, ⟨q2, q3⟩, q4, q5, q6⟩ := hq9 q hq
          have lq := lvs_pos q.1
          have lenq := pst_len q.1.1 q.1.2
          have l1 : ((pst q.1).length : Int) + 1 = 2 * lvs q.1 + mis q.1 := by exact_mod_cast lenq
          have l6 : (6 - deep) * (lvs q.1 : Int) ≤ 6 * lvs q.1 := Int.mul_le_mul_of_nonneg_right (by omega) (by omega)
          obtain ⟨I3, e3, r3, d3, d4, f3⟩ := t_emits (J := J) T r2 (o := 3) (v := 0) (by omega) (by omega)
          have hlen : st0 + ((pst (tPr (3, 0) t q.1)).length : Int) = st0 + (pst t).length + (pst q.1).length + 1 := by
            rw [pst_pr]
            simp
            omega
          have D3 : DRt (I3 (m + 1)) st0 (pst (tPr (3, 0) t q.1)) := by
            rw [pst_pr]
            refine DRt_app.mpr ⟨DRt_eq (DRt_eq D1 (fun j hj => f2.2.2 j hj)) (fun j hj => f3.2.2 j (by omega)), DRt_app.mpr ⟨DRt_eq d2 (fun j hj => f3.2.2 j hj), ⟨d3, d4⟩, trivial⟩⟩
          have F3 : FR m I I3 st0 := f1.le2 (by omega) (f2.le2 (by omega) (f3.le (by omega)))
          obtain ⟨y1, y2⟩ := t_lpProduct T hn hB IH hd hf k (tPr (3, 0) t q.1) q.2.1 q.2.2 st0 bg2 I3 (by omega) (by omega) q3 (by omega) q5 s0 (by rw [hlen]; omega) (wfs_pr ⟨by decide, by show (0 : Int) ≤ 0; omega, by show (0 : Int) ≤ 8; omega⟩ hwf q1) (by rw [hlen]; exact r3) D3
          have st : s_X11_readProduct_l9 (s_rd f) m (sh, I, J) = s_X11_readProduct_l9 (s_rd f) m (sh, I3, J) := by
            rw [e_X11_readProduct_l9]
            unfold s_X11_readProduct_l9_st
            rw [t_ck T, bsome, e1, bsome]
            dsimp only
            rw [if_neg (show ¬ w32 1 = 0 by decide), t_ck T, bsome, e2, bsome]
            dsimp only
            rw [if_neg (show ¬ w32 1 = 0 by decide), t_ck T, bsome, e3, bsome]
            rfl
          rw [st]
          refine ⟨fun r hr => ?_, fun pl hr => ?_⟩
          · obtain ⟨I4, bg4, x1, x2, x3, x4⟩ := y1 r hr
            exact ⟨I4, bg4, x1, x2, x3, F3.le2 (Int.le_refl _) x4⟩
          · obtain ⟨I4, x1, x2, x4⟩ := y2 pl hr
            exact ⟨I4, x1, x2, F3.le2 (Int.le_refl _) x4⟩
    · rw [if_neg hc]
      obtain ⟨I1, e1, r1, f1⟩ := c1 hc
      refine ⟨fun r hr => ?_, fun pl hr => by cases hr⟩
      rw [← Sum.inr.inj hr]
      refine ⟨I1, _, ?_, r1, DRt_eq hD (fun j hj => f1.2.2 j (by omega)), f1.le (by omega)⟩
      rw [e_X11_readProduct_l9]
      unfold s_X11_readProduct_l9_st
      rw [t_ck T, bsome, e1, bsome]
      rfl
theorem t_lpSum (T : TL sh m) {n : Int} {B : Int → Int} (hn : n ≤ 400) (hB : okB B) {f : Nat} (IH : RdOk sh J m n B f) {deep : Int} (hd : 0 ≤ deep ∧ deep ≤ 6) (hf : 4 * (6 - deep) + 3 ≤ f) :
    ∀ (k : Nat) (t : TT) (a it st0 bg : Int) (I : Nat → Int → Int), n - a < k → 0 ≤ a → a ≤ n → 0 ≤ it → it ≤ 40 → 0 ≤ st0 → st0 + (pst t).length ≤ 4 * it + 3 → wfs t → RS I m n B a deep it (st0 + (pst t).length) bg → DRt (I (m + 1)) st0 (pst t) →
      (∀ r, lpR false B n 43 2 (fun a i => prR false B n f 1 a deep i) k t a it = .inr r → ∃ I' bg', s_X11_readSum_l9 (s_rd f) m (sh, I, J) = some (1, (sh, I', J)) ∧ RS I' m n B r.2.1 deep r.2.2 (st0 + (pst r.1).length) bg' ∧ DRt (I' (m + 1)) st0 (pst r.1) ∧ FR m I I' st0) ∧
      (∀ pl, lpR false B n 43 2 (fun a i => prR false B n f 1 a deep i) k t a it = .inl pl → ∃ I', s_X11_readSum_l9 (s_rd f) m (sh, I, J) = some (0, (sh, I', J)) ∧ I' m 14 = pl ∧ FR m I I' st0)
  | 0, t, a, it, st0, bg, I, hk, h0, h1, _, _, _, _, _, _, _ => by omega
  | k + 1, t, a, it, st0, bg, I, hk, h0, h1, i0, i1, s0, hst, hwf, hR, hD => by
    have s := skS_b (B := B) h0 h1 hn
    obtain ⟨c1, c2, c3⟩ := t_counts (J := J) T hn hB hR h0 h1 ⟨i0, i1⟩ (c := 43) (by decide)
    unfold lpR
    by_cases hc : skS B n a < n ∧ B (skS B n a) = 43
    · rw [if_pos hc]
      by_cases h40 : it = 40
      · rw [if_pos h40, if_neg (by decide)]
        obtain ⟨I1, e1, r1, f1⟩ := c2 hc h40
        refine ⟨fun r hr => ?_, fun pl hr => by cases hr⟩
        rw [← Sum.inr.inj hr]
        refine ⟨I1, _, ?_, r1, DRt_eq hD (fun j hj => f1.2.2 j (by omega)), f1.le (by omega)⟩
        rw [e_X11_readSum_l9]
        unfold s_X11_readSum_l9_st
        rw [t_ck T, bsome, e1, bsome]
        rfl
      · rw [if_neg h40]
        obtain ⟨I1, e1, r1, f1⟩ := c3 hc h40
        have D1 := DRt_eq hD (fun j hj => f1.2.2 j (by omega))
        obtain ⟨g1, g2⟩ := IH 1 I1 (skS B n a + 1) deep (it + 1) (st0 + (pst t).length) (skS B n a) r1 (by omega) (by omega) hd ⟨by omega, by omega⟩ ⟨by omega, by omega⟩ (Or.inr (Or.inl (Or.inl ⟨rfl, hf⟩))) (fun h => absurd h (by decide))
        have hq9 := prR_ok (hard := false) (B := B) hn f 1 (skS B n a + 1) deep (it + 1) (by omega) (by omega) hd ⟨by omega, by omega⟩
        cases hq : prR false B n f 1 (skS B n a + 1) deep (it + 1) with
        | inl pl =>
          obtain ⟨I2, e2, b2, f2⟩ := g2 pl hq
          refine ⟨fun r hr => (by cases hr), fun pl' hr => ?_⟩
          refine ⟨I2, ?_, by rw [b2]; exact Sum.inl.inj hr, f1.le2 (by omega) (f2.le (by omega))⟩
          rw [e_X11_readSum_l9]
          unfold s_X11_readSum_l9_st
          rw [t_ck T, bsome, e1, bsome]
          dsimp only
          rw [if_neg (show ¬ w32 1 = 0 by decide), t_ck T, bsome, e2, bsome]
          rfl
        | inr q =>
          obtain ⟨I2, bg2, e2, r2, d2, f2⟩ := g1 q hq
          obtain ⟨q1, ⟨q2, q3⟩, q4, q5, q6⟩ := hq9 q hq
          have lq := lvs_pos q.1
          have lenq := pst_len q.1.1 q.1.2
          have l1 : ((pst q.1).length : Int) + 1 = 2 * lvs q.1 + mis q.1 := by exact_mod_cast lenq
          have l6 : (6 - deep) * (lvs q.1 : Int) ≤ 6 * lvs q.1 := Int.mul_le_mul_of_nonneg_right (by omega) (by omega)
          obtain ⟨I3, e3, r3, d3, d4, f3⟩ := t_emits (J := J) T r2 (o := 2) (v := 0) (by omega) (by omega)
          have hlen : st0 + ((pst (tPr (2, 0) t q.1)).length : Int) = st0 + (pst t).length + (pst q.1).length + 1 := by
            rw [pst_pr]
            simp
            omega
          have D3 : DRt (I3 (m + 1)) st0 (pst (tPr (2, 0) t q.1)) := by
            rw [pst_pr]
            refine DRt_app.mpr ⟨DRt_eq (DRt_eq D1 (fun j hj => f2.2.2 j hj)) (fun j hj => f3.2.2 j (by omega)), DRt_app.mpr ⟨DRt_eq d2 (fun j hj => f3.2.2 j hj), ⟨d3, d4⟩, trivial⟩⟩
          have F3 : FR m I I3 st0 := f1.le2 (by omega) (f2.le2 (by omega) (f3.le (by omega)))
          obtain ⟨y1, y2⟩ := t_lpSum T hn hB IH hd hf k (tPr (2, 0) t q.1) q.2.1 q.2.2 st0 bg2 I3 (by omega) (by omega) q3 (by omega) q5 s0 (by rw [hlen]; omega) (wfs_pr ⟨by decide, by show (0 : Int) ≤ 0; omega, by show (0 : Int) ≤ 8; omega⟩ hwf q1) (by rw [hlen]; exact r3) D3
          have st : s_X11_readSum_l9 (s_rd f) m (sh, I, J) = s_X11_readSum_l9 (s_rd f) m (sh, I3, J) := by
            rw [e_X11_readSum_l9]
            unfold s_X11_readSum_l9_st
            rw [t_ck T, bsome, e1, bsome]
            dsimp only
            rw [if_neg (show ¬ w32 1 = 0 by decide), t_ck T, bsome, e2, bsome]
            dsimp only
            rw [if_neg (show ¬ w32 1 = 0 by decide), t_ck T, bsome, e3, bsome]
            rfl
          rw [st]
          refine ⟨fun r hr => ?_, fun pl hr => ?_⟩
          · obtain ⟨I4, bg4, x1, x2, x3, x4⟩ := y1 r hr
            exact ⟨I4, bg4, x1, x2, x3, F3.le2 (Int.le_refl _) x4⟩
          · obtain ⟨I4, x1, x2, x4⟩ := y2 pl hr
            exact ⟨I4, x1, x2, F3.le2 (Int.le_refl _) x4⟩
    · rw [if_neg hc]
      obtain ⟨I1, e1, r1, f1⟩ := c1 hc
      refine ⟨fun r hr => ?_, fun pl hr => by cases hr⟩
      rw [← Sum.inr.inj hr]
      refine ⟨I1, _, ?_, r1, DRt_eq hD (fun j hj => f1.2.2 j (by omega)), f1.le (by omega)⟩
      rw [e_X11_readSum_l9]
      unfold s_X11_readSum_l9_st
      rw [t_ck T, bsome, e1, bsome]
      rfl
end TRd
