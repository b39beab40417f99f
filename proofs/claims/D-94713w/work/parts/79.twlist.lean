/-! the twin: lists of reduced forms; real roots -/
set_option maxRecDepth 100000
/-- is (a, b) the beginning of a reduced form of a disc -/
def goR (disc all a b : Int) : Bool :=
  decide ((b * b - disc) % (4 * a) = 0) && (decide (a < (b * b - disc) / (4 * a) ∨ (a = (b * b - disc) / (4 * a) ∧ 0 ≤ b)) && (decide (all ≠ 0) || decide ((Int.gcd (Int.gcd a b : Int) ((b * b - disc) / (4 * a)) : Int) ≤ 1)))
abbrev Rk : Type := Int × Int × Int × Int
def rmS (disc all k a b : Int) (s : Rk) : Rk := if goR disc all a b = true then (s.1 + 1, if s.1 = k then (a, b, (b * b - disc) / (4 * a)) else s.2) else s
/-- over b, from (1 - a) + i on, so many -/
def rmB (disc all k a : Int) : Nat → Nat → Rk → Rk
  | 0, _, s => s
  | n + 1, i, s => rmB disc all k a n (i + 1) (rmS disc all k a (1 - a + i) s)
def rmA (disc all k : Int) : Nat → Nat → Rk → Rk
  | 0, _, s => s
  | n + 1, a, s => if -disc < 3 * a * a then s else rmA disc all k n (a + 1) (rmB disc all k a (2 * a) 0 s)
def rmT (disc all k : Int) (s : Int × Int × Int) : Rk := rmA disc all k 60 1 (0, s)
abbrev okD (d : Int) : Prop := (-9999 ≤ d ∧ d ≤ -3) ∧ d % 4 < 2
section TLi
variable {sh : Sh} {I J : Nat → Int → Int} {m : Nat}
theorem x_abs {a : Int} (h0 : -2147483648 ≤ a) (h1 : a < 2147483648) (μ : Me) : s_J6_abs a μ = some ((a.natAbs : Int), μ) := by
  unfold s_J6_abs
  rw [w32_id h0 h1]
  by_cases h : 0 ≤ a
  · rw [if_pos h, show (a.natAbs : Int) = a by omega]
  · rw [if_neg h, show (a.natAbs : Int) = -a by omega]
theorem t_shared {a b : Int} (ha : -1000000 ≤ a ∧ a < 1000000) (hb : -1000000 ≤ b ∧ b < 1000000) (μ : Me) : s_X11_shared a b μ = some ((Int.gcd a b : Int), μ) := by
  unfold s_X11_shared
  rw [x_abs (by omega) (by omega), bsome]
  dsimp only
  rw [x_abs (by omega) (by omega), bsome]
  dsimp only
  have key : ∀ (n x y : Nat), y < n → x < 2000000 → y < 2000000 → s_X11_shared_l10 x y μ = some (((Nat.gcd x y : Nat) : Int), μ) := by
    intro n
    induction n with
    | zero => intro x y h; omega
    | succ n ih =>
      intro x y hy h1 h2
      rw [e_X11_shared_l10]
      unfold s_X11_shared_l10_st
      rw [w32_id (by omega) (by omega)]
      by_cases h : y = 0
      · rw [if_pos (by omega), h, Nat.gcd_zero_right]
        rfl
      · rw [if_neg (by omega), rmI_m (by omega) (by omega) (by omega) (by omega), bsome, Int.tmod_eq_emod_of_nonneg (by omega)]
        have hlt := Nat.mod_lt x (show 0 < y by omega)
        have h9 := ih y (x % y) (by omega) h2 (by omega)
        rw [show Nat.gcd x y = Nat.gcd y (x % y) by rw [Nat.gcd_comm x y, Nat.gcd_rec y x, Nat.gcd_comm]]
        exact h9
  exact key (b.natAbs + 1) a.natAbs b.natAbs (by omega) (by omega) (by omega)
theorem gcd_b {a b : Int} (h : b ≠ 0 ∨ a ≠ 0) (hb : (b.natAbs : Int) < 1000000) (ha : (a.natAbs : Int) < 1000000) : 0 ≤ (Int.gcd a b : Int) ∧ (Int.gcd a b : Int) < 1000000 := by
  refine ⟨by omega, ?_⟩
  rcases h with h | h
  · have h1 := Nat.gcd_le_right a.natAbs (show 0 < b.natAbs by omega)
    have e : Int.gcd a b = Nat.gcd a.natAbs b.natAbs := rfl
    omega
  · have h1 := Nat.gcd_le_left b.natAbs (show 0 < a.natAbs by omega)
    have e : Int.gcd a b = Nat.gcd a.natAbs b.natAbs := rfl
    omega
/-- one pair -/
theorem t_l24 (T : TL sh m) {disc all k : Int} (hd : -9999 ≤ disc ∧ disc ≤ -3) (hall : all = 0 ∨ all = 1) (hk : i32 k) {a : Nat} (ha : 1 ≤ a ∧ a ≤ 60) {i : Nat} (hi : i < 2 * a) {s : Rk} (hn : 0 ≤ s.1 ∧ s.1 < 100000) (hs : (I m 35, I m 36, I m 37) = s.2) :
    ∃ I', s_X11_reducedMany_l24_st m disc all k s.1 a (1 - (a : Int) + i) (sh, I, J) = some (.inl ((rmS disc all k a (1 - (a : Int) + i) s).1, 1 - (a : Int) + ((i + 1 : Nat) : Int), (sh, I', J))) ∧ (I' m 35, I' m 36, I' m 37) = (rmS disc all k a (1 - (a : Int) + i) s).2 ∧ HK m I I' := by
  obtain ⟨b, hb⟩ : ∃ b : Int, 1 - (a : Int) + i = b := ⟨_, rfl⟩
  have hi1 : 1 - (a : Int) + ((i + 1 : Nat) : Int) = b + 1 := by omega
  rw [hi1, hb]
  have bb : -60 ≤ b ∧ b ≤ 60 := by omega
  have ba : b ≤ a := by omega
  have hsq := sq_le (x := b) (m := 60) bb.1 bb.2
  have hsq0 : 0 ≤ b * b := by
    rcases Int.le_total 0 b with h | h
    · exact Int.mul_nonneg h h
    · have := Int.mul_nonneg (show 0 ≤ -b by omega) (show 0 ≤ -b by omega)
      rwa [Int.neg_mul_neg] at this
  obtain ⟨f, hf⟩ : ∃ f, b * b - disc = f := ⟨_, rfl⟩
  have fb : 0 < f ∧ f < 100000 := by omega
  have hcb : 0 ≤ f / (4 * a) ∧ f / (4 * a) < 100000 := by
    have h1 := Int.ediv_nonneg (show 0 ≤ f by omega) (show 0 ≤ 4 * (a : Int) by omega)
    have h2 := Int.ediv_le_self (4 * (a : Int)) (show 0 ≤ f by omega)
    omega
  obtain ⟨c, hc⟩ : ∃ c, f / (4 * (a : Int)) = c := ⟨_, rfl⟩
  rw [hc] at hcb
  have er : rmI f (4 * a) = some (f % (4 * a)) := by rw [rmI_m (by omega) (by omega) (by omega) (by omega), Int.tmod_eq_emod_of_nonneg (by omega)]
  have ed : dvI f (4 * a) = some c := by
    unfold dvI
    rw [w32_id (by omega) (by omega), w32_id (by omega) (by omega), if_neg (by omega), Int.tdiv_eq_ediv_of_nonneg (by omega), hc]
  have rb1 := Int.emod_nonneg f (show 4 * (a : Int) ≠ 0 by omega)
  have rb2 := Int.emod_lt_of_pos f (show 0 < 4 * (a : Int) by omega)
  have no : goR disc all a b = false → ∃ I', (some (Sum.inl (s.1, b + 1, ((sh, I, J) : Me))) : Option ((Int × Int × Me) ⊕ ((Int × Int × Me) ⊕ (Int × Me)))) = some (.inl ((rmS disc all k a b s).1, b + 1, (sh, I', J))) ∧ (I' m 35, I' m 36, I' m 37) = (rmS disc all k a b s).2 ∧ HK m I I' := by
    intro h
    have : rmS disc all k a b s = s := by
      unfold rmS
      rw [h, if_neg (by decide)]
    rw [this]
    exact ⟨I, rfl, hs, HK.refl⟩
  have yes : goR disc all a b = true → ∃ I', s_X11_reducedMany_b105 m disc all k s.1 a b c (sh, I, J) = some (.inl ((rmS disc all k a b s).1, b + 1, (sh, I', J))) ∧ (I' m 35, I' m 36, I' m 37) = (rmS disc all k a b s).2 ∧ HK m I I' := by
    intro h
    have hr : rmS disc all k a b s = (s.1 + 1, if s.1 = k then ((a : Int), b, c) else s.2) := by
      unfold rmS
      rw [h, if_pos rfl, hf, hc]
    rw [hr]
    unfold s_X11_reducedMany_b105
    rw [w32_id (by omega) (by omega), w32_id hk.1 hk.2]
    by_cases h9 : s.1 = k
    · rw [if_pos h9, if_pos h9]
      simp (disch := omega) only [t_pI T, bsome, up1_up1, up1_s]
      refine ⟨_, rfl, ?_, fun q x y => up1_n _ _ x, fun j hj => ?_⟩
      · rw [up1_s, upz_n _ _ (by decide), upz_n _ _ (by decide), upz_s, upz_n _ _ (by decide), upz_s, upz_s]
      · rw [up1_s, upz_n _ _ (by omega), upz_n _ _ (by omega), upz_n _ _ (by omega)]
    · rw [if_neg h9, if_neg h9]
      exact ⟨I, rfl, hs, HK.refl⟩
  have hgo : goR disc all a b = (decide (f % (4 * a) = 0) && (decide ((a : Int) < c ∨ ((a : Int) = c ∧ 0 ≤ b)) && (decide (all ≠ 0) || decide ((Int.gcd (Int.gcd a b : Int) c : Int) ≤ 1)))) := by
    unfold goR
    rw [hf, hc]
  unfold s_X11_reducedMany_l24_st
  rw [w32_id (x := (a : Int)) (by omega) (by omega), w32_id (x := b) (by omega) (by omega), if_neg (by omega), hf, er, bsome, w32_id (x := f % (4 * (a : Int))) (by omega) (by omega)]
  by_cases h1 : f % (4 * (a : Int)) = 0
  · rw [if_pos h1, ed, bsome, w32_id (x := c) (by omega) (by omega)]
    have tail : ((a : Int) < c ∨ ((a : Int) = c ∧ 0 ≤ b)) → ∃ I', s_X11_reducedMany_b82 m disc all k s.1 a b c (sh, I, J) = some (.inl ((rmS disc all k a b s).1, b + 1, (sh, I', J))) ∧ (I' m 35, I' m 36, I' m 37) = (rmS disc all k a b s).2 ∧ HK m I I' := by
      intro h2
      unfold s_X11_reducedMany_b82
      rcases hall with rfl | rfl
      · rw [if_pos (show w32 0 = 0 from rfl), t_shared (by omega) (by omega), bsome]
        have g1 := gcd_b (a := (a : Int)) (b := b) (Or.inr (by omega)) (by omega) (by omega)
        rw [t_shared (by omega) (by omega), bsome]
        have g2 := gcd_b (a := ((Int.gcd (a : Int) b : Nat) : Int)) (b := c) (Or.inl (by omega)) (by omega) (by omega)
        dsimp only
        rw [w32_id (x := ((Int.gcd ((Int.gcd (a : Int) b : Nat) : Int) c : Nat) : Int)) (by omega) (by omega), show w32 1 = 1 from rfl]
        by_cases h3 : ((Int.gcd ((Int.gcd (a : Int) b : Nat) : Int) c : Nat) : Int) ≤ 1
        · rw [if_pos h3]
          exact yes (by rw [hgo, decide_eq_true h1, decide_eq_true h2, decide_eq_true h3]; rfl)
        · rw [if_neg h3]
          exact no (by rw [hgo, decide_eq_false h3]; simp)
      · rw [if_neg (show ¬ w32 1 = 0 by decide)]
        exact yes (by rw [hgo, decide_eq_true h1, decide_eq_true h2]; rfl)
    by_cases h2 : c < a
    · rw [if_pos h2]
      exact no (by rw [hgo, decide_eq_false (show ¬((a : Int) < c ∨ ((a : Int) = c ∧ 0 ≤ b)) by omega)]; simp)
    · rw [if_neg h2]
      by_cases h3 : c = a
      · rw [if_pos h3]
        by_cases h4 : b < 0
        · rw [if_pos h4]
          exact no (by rw [hgo, decide_eq_false (show ¬((a : Int) < c ∨ ((a : Int) = c ∧ 0 ≤ b)) by omega)]; simp)
        · rw [if_neg h4]
          exact tail (by omega)
      · rw [if_neg h3]
        exact tail (by omega)
  · rw [if_neg h1]
    exact no (by rw [hgo, decide_eq_false h1]; rfl)
theorem rmS_n (disc all k a b : Int) (s : Rk) : s.1 ≤ (rmS disc all k a b s).1 ∧ (rmS disc all k a b s).1 ≤ s.1 + 1 := by
  unfold rmS
  split
  · dsimp only; omega
  · omega
theorem rmB_n (disc all k a : Int) : ∀ (n i : Nat) (s : Rk), s.1 ≤ (rmB disc all k a n i s).1 ∧ (rmB disc all k a n i s).1 ≤ s.1 + n
  | 0, i, s => by unfold rmB; omega
  | n + 1, i, s => by
    have h1 := rmS_n disc all k a (1 - a + i) s
    have h2 := rmB_n disc all k a n (i + 1) (rmS disc all k a (1 - a + i) s)
    unfold rmB
    omega
theorem rmA_n (disc all k : Int) : ∀ (n a : Nat) (s : Rk), a + n ≤ 61 → s.1 ≤ (rmA disc all k n a s).1 ∧ (rmA disc all k n a s).1 ≤ s.1 + 122 * n
  | 0, a, s, _ => by unfold rmA; omega
  | n + 1, a, s, h => by
    have h1 := rmB_n disc all k a (2 * a) 0 s
    have h2 := rmA_n disc all k n (a + 1) (rmB disc all k a (2 * a) 0 s) (by omega)
    unfold rmA
    split <;> omega
theorem t_reducedMany (T : TL sh m) {disc all k : Int} (hd : -9999 ≤ disc ∧ disc ≤ -3) (hall : all = 0 ∨ all = 1) (hk : i32 k) :
    ∃ I', s_X11_reducedMany m disc all k (sh, I, J) = some ((rmT disc all k (I m 35, I m 36, I m 37)).1, (sh, I', J)) ∧ (I' m 35, I' m 36, I' m 37) = (rmT disc all k (I m 35, I m 36, I m 37)).2 ∧ HK m I I' := by
  unfold s_X11_reducedMany rmT
  have inner : ∀ (a : Nat) (n i : Nat) (s : Rk) (I1 : Nat → Int → Int), (1 ≤ a ∧ a ≤ 60) → i + n = 2 * a → 0 ≤ s.1 → s.1 + n < 100000 → (I1 m 35, I1 m 36, I1 m 37) = s.2 → HK m I I1 →
      ∃ I', s_X11_reducedMany_l24 m disc all k s.1 a (1 - (a : Int) + i) (sh, I1, J) = some (.inl ((rmB disc all k a n i s).1, (a : Int) + 1, (sh, I', J))) ∧ (I' m 35, I' m 36, I' m 37) = (rmB disc all k a n i s).2 ∧ HK m I I' := by
    intro a n
    induction n with
    | zero =>
      intro i s I1 ha hi h0 h1 hs hK
      refine ⟨I1, ?_, hs, hK⟩
      rw [e_X11_reducedMany_l24]
      unfold s_X11_reducedMany_l24_st
      rw [w32_id (x := (a : Int)) (by omega) (by omega), w32_id (x := 1 - (a : Int) + i) (by omega) (by omega), if_pos (by omega)]
      rfl
    | succ n ih =>
      intro i s I1 ha hi h0 h1 hs hK
      obtain ⟨I2, e2, s2, k2⟩ := t_l24 (I := I1) (J := J) T hd hall hk ha (i := i) (by omega) (s := s) ⟨h0, by omega⟩ hs
      have hb := rmS_n disc all k a (1 - (a : Int) + i) s
      obtain ⟨I3, e3, s3, k3⟩ := ih (i + 1) (rmS disc all k a (1 - (a : Int) + i) s) I2 ha (by omega) (by omega) (by omega) s2 (hK.trans k2)
      refine ⟨I3, ?_, s3, k3⟩
      rw [e_X11_reducedMany_l24, e2]
      exact e3
  have outer : ∀ (n a : Nat) (s : Rk) (I1 : Nat → Int → Int), a + n = 61 → 1 ≤ a → 0 ≤ s.1 → s.1 + 122 * n < 100000 → (I1 m 35, I1 m 36, I1 m 37) = s.2 → HK m I I1 →
      ∃ I', s_X11_reducedMany_l6 m disc all k s.1 a (sh, I1, J) = some ((rmA disc all k n a s).1, (sh, I', J)) ∧ (I' m 35, I' m 36, I' m 37) = (rmA disc all k n a s).2 ∧ HK m I I' := by
    intro n
    induction n with
    | zero =>
      intro a s I1 ha h1 h0 h2 hs hK
      have : a = 61 := by omega
      subst this
      refine ⟨I1, ?_, hs, hK⟩
      rw [e_X11_reducedMany_l6]
      unfold s_X11_reducedMany_l6_st
      rw [w32_id (x := -disc) (by omega) (by omega), if_pos (show -disc < w32 (3 * ((61 : Nat) : Int) * ((61 : Nat) : Int)) by
        have : w32 (3 * ((61 : Nat) : Int) * ((61 : Nat) : Int)) = 11163 := by decide
        omega)]
      rfl
    | succ n ih =>
      intro a s I1 ha h1 h0 h2 hs hK
      have haa : (a : Int) * a ≤ 60 * 60 := Int.mul_le_mul (by omega) (by omega) (by omega) (by omega)
      have haa0 : 0 ≤ (a : Int) * a := Int.mul_nonneg (by omega) (by omega)
      have h3a : 3 * (a : Int) * a = 3 * ((a : Int) * a) := Int.mul_assoc _ _ _
      rw [e_X11_reducedMany_l6]
      unfold s_X11_reducedMany_l6_st rmA
      rw [w32_id (x := -disc) (by omega) (by omega), w32_id (x := 3 * (a : Int) * a) (by omega) (by omega)]
      by_cases h9 : -disc < 3 * (a : Int) * a
      · rw [if_pos h9, if_pos h9]
        exact ⟨I1, rfl, hs, hK⟩
      · rw [if_neg h9, if_neg h9]
        obtain ⟨I2, e2, s2, k2⟩ := inner a (2 * a) 0 s I1 ⟨h1, by omega⟩ (by omega) h0 (by omega) hs hK
        have hb := rmB_n disc all k a (2 * a) 0 s
        obtain ⟨I3, e3, s3, k3⟩ := ih (a + 1) (rmB disc all k a (2 * a) 0 s) I2 (by omega) (by omega) (by omega) (by omega) s2 k2
        refine ⟨I3, ?_, s3, k3⟩
        rw [show 1 - (a : Int) = 1 - (a : Int) + ((0 : Nat) : Int) by omega, e2]
        exact e3
  exact outer 60 1 (0, (I m 35, I m 36, I m 37)) I (by omega) (by omega) (by show (0 : Int) ≤ 0; omega) (by show (0 : Int) + 122 * ((60 : Nat) : Int) < 100000; omega) rfl HK.refl
theorem t_noDisc {d : Int} (hd : i32 d) (μ : Me) : s_X11_noDisc d μ = some (if okD d then 0 else 1, μ) := by
  unfold s_X11_noDisc
  rw [x_in hd ⟨by omega, by omega⟩ ⟨by omega, by omega⟩, bsome]
  dsimp only
  by_cases h : -9999 ≤ d ∧ d ≤ -3
  · rw [if_pos h, if_neg (show ¬ w32 1 = 0 by decide), t_floorModI (by omega) (by omega) hd.1 hd.2, bsome]
    have h1 := Int.emod_nonneg d (show (4 : Int) ≠ 0 by decide)
    have h2 := Int.emod_lt_of_pos d (show (0 : Int) < 4 by decide)
    dsimp only
    rw [w32_id (by omega) (by omega), show w32 1 = 1 from rfl]
    by_cases h3 : d % 4 ≤ 1
    · rw [if_pos h3, if_pos ⟨h, by omega⟩]
    · rw [if_neg h3, if_neg (fun g => h3 (by have := g.2; omega))]
  · rw [if_neg h, if_pos (show w32 0 = 0 from rfl), if_neg (fun g => h g.1)]
theorem t_classes (T : TL sh m) {d all : Int} (hd : i32 d) (hall : all = 0 ∨ all = 1) :
    (okD d → QG (s_X11_classes m d all (sh, I, J)) sh I J m (rmT d all (-1) (I m 35, I m 36, I m 37)).1) ∧ (¬ okD d → QB (s_X11_classes m d all (sh, I, J)) sh I J m 1) := by
  have e1 := t_noDisc hd (sh, thr I m 0, J)
  refine ⟨fun h => ?_, fun h => ?_⟩
  · rw [if_pos h] at e1
    obtain ⟨I', e2, s2, k2⟩ := t_reducedMany (I := thr I m 0) (J := J) T h.1 hall (k := -1) ⟨by omega, by omega⟩
    rw [thr_k (by decide), thr_k (by decide), thr_k (by decide)] at e2
    unfold s_X11_classes
    simp (disch := omega) only [t_thr T, bsome, t_ck T, e1, t_if0, w32_id (x := 0), if_pos, e2, ifT]
    exact ⟨_, _, rfl, k2, HJ.refl⟩
  · rw [if_neg h] at e1
    unfold s_X11_classes
    simp (disch := omega) only [t_thr T, bsome, t_ck T, e1, t_if1 T, w32_id, if_neg, thr_thr, ifT]
    exact ⟨_, _, _, rfl, HK.refl, HJ.refl⟩
/-- the k-th one's number -/
def rkP (d k w : Int) (s : Rk) : Int := if s.1 ≤ k then -9999 else if w = 0 then s.2.1 else if w = 1 then s.2.2.1 else s.2.2.2
theorem t_reducedAt (T : TL sh m) {d k w : Int} (hd : i32 d) (hk : i32 k) (hw : i32 w) :
    (okD d → 0 ≤ k → (0 ≤ w ∧ w ≤ 2) → QG (s_X11_reducedAt m d k w (sh, I, J)) sh I J m (rkP d k w (rmT d 0 k (I m 35, I m 36, I m 37)))) ∧ (¬(okD d ∧ 0 ≤ k) → QB (s_X11_reducedAt m d k w (sh, I, J)) sh I J m 1) ∧
    (okD d → 0 ≤ k → ¬(0 ≤ w ∧ w ≤ 2) → QB (s_X11_reducedAt m d k w (sh, I, J)) sh I J m 2) := by
  have e1 := t_noDisc hd (sh, thr I m 0, J)
  have e3 := x_in (lo := 0) (hi := 2) hw ⟨by omega, by omega⟩ ⟨by omega, by omega⟩ (sh, thr I m 0, J)
  have hk2 := hk
  unfold i32 at hk
  refine ⟨fun h h2 h3 => ?_, fun h => ?_, fun h h2 h3 => ?_⟩
  · rw [if_pos h] at e1
    rw [if_pos h3] at e3
    obtain ⟨I', e2, s2, k2⟩ := t_reducedMany (I := thr I m 0) (J := J) T h.1 (all := 0) (Or.inl rfl) hk2
    rw [thr_k (by decide), thr_k (by decide), thr_k (by decide)] at e2 s2
    have hb : 0 ≤ (rmT d 0 k (I m 35, I m 36, I m 37)).1 ∧ (rmT d 0 k (I m 35, I m 36, I m 37)).1 ≤ 0 + 122 * ((60 : Nat) : Int) := rmA_n d 0 k 60 1 (0, (I m 35, I m 36, I m 37)) (by omega)
    obtain ⟨s, hs⟩ : ∃ s, rmT d 0 k (I m 35, I m 36, I m 37) = s := ⟨_, rfl⟩
    rw [hs] at e2 s2 hb ⊢
    have z0 : I' m 35 = s.2.1 := congrArg (fun z : Int × Int × Int => z.1) s2
    have z1 : I' m 36 = s.2.2.1 := congrArg (fun z : Int × Int × Int => z.2.1) s2
    have z2 : I' m 37 = s.2.2.2 := congrArg (fun z : Int × Int × Int => z.2.2) s2
    unfold s_X11_reducedAt
    simp (disch := omega) only [t_thr T, bsome, e1, w32_id (x := 0), w32_id (x := k), if_pos, ifT]
    unfold s_X11_reducedAt_b22
    simp (disch := omega) only [t_ck T, bsome, t_if0, w32_id (x := 0), w32_id (x := 1), if_pos, if_neg, e3, ifT]
    unfold s_X11_reducedAt_b44
    simp (disch := omega) only [t_ck T, t_gI T, bsome, t_if0, w32_id (x := 0), w32_id (x := 1), w32_id (x := w), w32_id (x := k), w32_id (x := s.1), if_pos, e2, z0, z1, z2, ifT]
    unfold rkP
    by_cases h9 : s.1 ≤ k
    · rw [if_neg (by omega), if_pos h9]
      exact ⟨_, _, rfl, k2, HJ.refl⟩
    · rw [if_pos (by omega), if_neg h9]
      by_cases w0 : w = 0
      · rw [if_pos w0, if_pos w0]
        exact ⟨_, _, rfl, k2, HJ.refl⟩
      · rw [if_neg w0, if_neg w0]
        by_cases w1 : w = 1
        · rw [if_pos w1, if_pos w1]
          exact ⟨_, _, rfl, k2, HJ.refl⟩
        · rw [if_neg w1, if_neg w1]
          exact ⟨_, _, rfl, k2, HJ.refl⟩
  · have key : s_X11_reducedAt m d k w (sh, I, J) = s_X11_reducedAt_b17 m d k w m (sh, thr I m 0, J) := by
      unfold s_X11_reducedAt
      simp (disch := omega) only [t_thr T, bsome, e1, w32_id (x := k)]
      by_cases h1 : okD d
      · rw [if_pos h1, if_pos (show w32 0 = 0 from rfl), if_neg (fun h2 => h ⟨h1, h2⟩)]
      · rw [if_neg h1, if_neg (show ¬ w32 1 = 0 by decide)]
    rw [key]
    unfold s_X11_reducedAt_b17 s_X11_reducedAt_b22
    simp (disch := omega) only [t_ck T, bsome, t_if1 T, w32_id, if_neg, thr_thr, ifT]
    exact ⟨_, _, _, rfl, HK.refl, HJ.refl⟩
  · rw [if_pos h] at e1
    rw [if_neg h3] at e3
    unfold s_X11_reducedAt
    simp (disch := omega) only [t_thr T, bsome, e1, w32_id (x := 0), w32_id (x := k), if_pos, ifT]
    unfold s_X11_reducedAt_b22
    simp (disch := omega) only [t_ck T, bsome, t_if0, w32_id (x := 0), if_pos, e3, ifT]
    unfold s_X11_reducedAt_b44
    simp (disch := omega) only [t_ck T, bsome, t_if1 T, w32_id, if_neg, thr_thr, ifT]
    exact ⟨_, _, _, rfl, HK.refl, HJ.refl⟩
/-- real roots: what the twin's two functions tell -/
abbrev in30 (x : Int) : Prop := -30 ≤ x ∧ x ≤ 30
abbrev okR (a b c d e : Int) : Prop := (in30 a ∧ in30 b ∧ in30 c ∧ in30 d ∧ in30 e) ∧ (a ≠ 0 ∨ b ≠ 0)
theorem t_cubic_r (y0 y2 y4 y6 : Int) (μ : Me) : ∃ v, s_X11_realOfCubic y0 y2 y4 y6 μ = some (v, μ) := by
  unfold s_X11_realOfCubic s_X11_realOfCubic_b67
  repeat' split
  all_goals exact ⟨_, rfl⟩
theorem t_quartic_r (y0 y2 y4 y6 y8 : Int) (μ : Me) : ∃ v, s_X11_realOfQuartic y0 y2 y4 y6 y8 μ = some (v, μ) := by
  unfold s_X11_realOfQuartic s_X11_realOfQuartic_b86 s_X11_realOfQuartic_b219
  repeat' split
  all_goals exact ⟨_, rfl⟩
theorem x_isThirty {x : Int} (hx : i32 x) (μ : Me) : s_X11_isThirty x μ = some (if in30 x then 1 else 0, μ) := by
  unfold s_X11_isThirty
  rw [x_in hx ⟨by omega, by omega⟩ ⟨by omega, by omega⟩, bsome]
  dsimp only
  rw [bz2_m (by split <;> simp), bsome]
theorem t_real (T : TL sh m) {a b c d e : Int} (ha : i32 a) (hb : i32 b) (hc : i32 c) (hd : i32 d) (he : i32 e) :
    (okR a b c d e → ∀ v, (if a = 0 then s_X11_realOfCubic b c d e (sh, thr I m 0, J) else s_X11_realOfQuartic a b c d e (sh, thr I m 0, J)) = some (v, (sh, thr I m 0, J)) → QG (s_X11_real m a b c d e (sh, I, J)) sh I J m v) ∧
    (¬ okR a b c d e → QB (s_X11_real m a b c d e (sh, I, J)) sh I J m 1) := by
  have ea := x_isThirty ha (sh, thr I m 0, J)
  have eb := x_isThirty hb (sh, thr I m 0, J)
  have ec := x_isThirty hc (sh, thr I m 0, J)
  have ed := x_isThirty hd (sh, thr I m 0, J)
  have ee := x_isThirty he (sh, thr I m 0, J)
  unfold i32 at ha hb hc hd he
  have z1 : ¬ w32 1 = 0 := by decide
  have z0 : w32 0 = 0 := rfl
  refine ⟨fun h v hv => ?_, fun h => ?_⟩
  · obtain ⟨⟨h1, h2, h3, h4, h5⟩, h6⟩ := h
    rw [if_pos h1] at ea
    rw [if_pos h2] at eb
    rw [if_pos h3] at ec
    rw [if_pos h4] at ed
    rw [if_pos h5] at ee
    have key : s_X11_real m a b c d e (sh, I, J) = s_X11_real_b67 a b c d e m (sh, thr I m 0, J) := by
      unfold s_X11_real
      simp (disch := omega) only [t_thr T, bsome, ea, eb, ec, ed, ee, w32_id (x := 1), if_neg, ifT]
      unfold s_X11_real_b47
      rw [if_neg z1, w32_id ha.1 ha.2, w32_id hb.1 hb.2]
      by_cases h7 : a = 0
      · rw [if_pos h7, if_neg (by omega)]
      · rw [if_neg h7]
    rw [key]
    unfold s_X11_real_b67 s_X11_real_b68
    simp (disch := omega) only [t_ck T, bsome, t_if0, w32_id (x := 0), if_pos, w32_id (x := a), w32_id (x := b), w32_id (x := c), w32_id (x := d), w32_id (x := e), ifT]
    by_cases h7 : a = 0
    · rw [if_pos h7] at hv ⊢
      rw [hv, bsome]
      exact ⟨_, _, rfl, HK.refl, HJ.refl⟩
    · rw [if_neg h7] at hv ⊢
      rw [hv, bsome]
      exact ⟨_, _, rfl, HK.refl, HJ.refl⟩
  · have key : s_X11_real m a b c d e (sh, I, J) = s_X11_real_b63 a b c d e m (sh, thr I m 0, J) := by
      unfold s_X11_real
      simp (disch := omega) only [t_thr T, bsome, ea, eb, ec, ed, ee]
      unfold s_X11_real_b46 s_X11_real_b47
      rw [if_pos z0, if_neg z1, w32_id ha.1 ha.2, w32_id hb.1 hb.2]
      by_cases h1 : in30 a
      · rw [if_pos h1, if_neg z1]
        by_cases h2 : in30 b
        · rw [if_pos h2, if_neg z1]
          by_cases h3 : in30 c
          · rw [if_pos h3, if_neg z1]
            by_cases h4 : in30 d
            · rw [if_pos h4, if_neg z1]
              by_cases h5 : in30 e
              · rw [if_pos h5, if_neg z1]
                have h6 : a = 0 ∧ b = 0 := by
                  by_cases g1 : a = 0
                  · by_cases g2 : b = 0
                    · exact ⟨g1, g2⟩
                    · exact absurd ⟨⟨h1, h2, h3, h4, h5⟩, Or.inr g2⟩ h
                  · exact absurd ⟨⟨h1, h2, h3, h4, h5⟩, Or.inl g1⟩ h
                rw [if_pos h6.1, if_pos h6.2]
              · rw [if_neg h5, if_pos z0]
            · rw [if_neg h4, if_pos z0]
          · rw [if_neg h3, if_pos z0]
        · rw [if_neg h2, if_pos z0]
      · rw [if_neg h1, if_pos z0]
    rw [key]
    unfold s_X11_real_b63 s_X11_real_b68
    simp (disch := omega) only [t_ck T, bsome, t_if1 T, w32_id, if_neg, thr_thr, ifT]
    exact ⟨_, _, _, rfl, HK.refl, HJ.refl⟩
end TLi
