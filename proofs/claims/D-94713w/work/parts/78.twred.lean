/-! the twin: whole forms are reduced -/
set_option maxRecDepth 100000
abbrev Sq : Type := Int → Int
abbrev wdS (s : Sq) : Prop := s 0 < s 1 ∨ s 1 ≤ -(s 0)
abbrev tnS (s : Sq) : Prop := s 2 < s 0 ∨ (s 0 = s 2 ∧ s 1 < 0)
def shN (s : Sq) : Int := (s 0 - s 1) / (2 * s 0)
def eq8 (a b c d e f g h : Int) : Sq := fun k => if k = 0 then a else if k = 1 then b else if k = 2 then c else if k = 3 then d else if k = 4 then e else if k = 5 then f else if k = 6 then g else h
def shS (s : Sq) : Sq := eq8 (s 0) (s 1 + 2 * s 0 * shN s) (s 0 * shN s * shN s + s 1 * shN s + s 2) (s 3 + 1) (s 4) (s 4 * shN s + s 5) (s 6) (s 6 * shN s + s 7)
def swS (s : Sq) : Sq := eq8 (s 2) (-(s 1)) (s 0) (s 3 + 1) (s 5) (-(s 4)) (s 7) (-(s 6))
def rdS : Nat → Sq → Sq
  | 0, s => s
  | n + 1, s => if wdS s then rdS n (shS s) else if tnS s then rdS n (swS s) else s
def meS (s : Sq) : Nat := 4 * (s 0).toNat + (if wdS s then 2 else if tnS s then 1 else 0)
/-- what holds of a form that is being reduced -/
def ivQ (D : Int) (s : Sq) : Prop := (0 < s 0 ∧ s 0 ≤ 999) ∧ (-999 ≤ s 1 ∧ s 1 ≤ 999) ∧ (0 < s 2 ∧ s 2 ≤ 3000000) ∧ s 1 * s 1 - 4 * s 0 * s 2 = D ∧ (-5000000 ≤ D ∧ D < 0)
theorem sq_le {x m : Int} (h0 : -m ≤ x) (h1 : x ≤ m) : x * x ≤ m * m := by
  have h := Int.mul_nonneg (show 0 ≤ m - x by omega) (show 0 ≤ m + x by omega)
  have e : (m - x) * (m + x) = m * m - x * x := by grind
  omega
theorem shN_b {s : Sq} (h : 0 < s 0) : -(s 0) < s 1 + 2 * s 0 * shN s ∧ s 1 + 2 * s 0 * shN s ≤ s 0 := by
  have h1 := Int.mul_ediv_add_emod (s 0 - s 1) (2 * s 0)
  have h2 := Int.emod_nonneg (s 0 - s 1) (show 2 * s 0 ≠ 0 by omega)
  have h3 := Int.emod_lt_of_pos (s 0 - s 1) (show 0 < 2 * s 0 by omega)
  unfold shN
  omega
theorem shS_iv {D : Int} {s : Sq} (h : ivQ D s) : ivQ D (shS s) ∧ ¬ wdS (shS s) := by
  obtain ⟨⟨a0, a1⟩, ⟨b0, b1⟩, ⟨c0, c1⟩, hD, d0, d1⟩ := h
  have hb := shN_b a0
  have e0 : shS s 0 = s 0 := rfl
  have e1 : shS s 1 = s 1 + 2 * s 0 * shN s := rfl
  have e2 : shS s 2 = s 0 * shN s * shN s + s 1 * shN s + s 2 := rfl
  have hDD : shS s 1 * shS s 1 - 4 * shS s 0 * shS s 2 = D := by
    rw [e0, e1, e2, ← hD]
    grind
  obtain ⟨c, hc⟩ : ∃ c, shS s 2 = c := ⟨_, rfl⟩
  obtain ⟨b, hbv⟩ : ∃ b, shS s 1 = b := ⟨_, rfl⟩
  rw [← e1, hbv] at hb
  rw [e0, hc, hbv] at hDD
  have hsq := sq_le (x := b) (m := 999) (by omega) (by omega)
  have hsq0 : 0 ≤ b * b := by
    rcases Int.le_total 0 b with h | h
    · exact Int.mul_nonneg h h
    · have := Int.mul_nonneg (show 0 ≤ -b by omega) (show 0 ≤ -b by omega)
      rw [Int.neg_mul_neg] at this
      exact this
  have hac : 4 * s 0 * c = 4 * (s 0 * c) := Int.mul_assoc _ _ _
  have hcp : 0 < c := by
    by_cases h : 0 < c
    · exact h
    · exfalso
      have := Int.mul_nonneg (show 0 ≤ s 0 by omega) (show 0 ≤ -c by omega)
      rw [Int.mul_neg] at this
      omega
  have hcl : c ≤ s 0 * c := by
    have := Int.mul_le_mul_of_nonneg_right (show 1 ≤ s 0 by omega) (show 0 ≤ c by omega)
    omega
  unfold ivQ wdS
  rw [e0, hc, hbv]
  exact ⟨⟨⟨a0, a1⟩, ⟨by omega, by omega⟩, ⟨hcp, by omega⟩, hDD, d0, d1⟩, by omega⟩
theorem swS_iv {D : Int} {s : Sq} (h : ivQ D s) (hw : ¬ wdS s) (ht : tnS s) : ivQ D (swS s) := by
  obtain ⟨⟨a0, a1⟩, ⟨b0, b1⟩, ⟨c0, c1⟩, hD, d0, d1⟩ := h
  have e0 : swS s 0 = s 2 := rfl
  have e1 : swS s 1 = -(s 1) := rfl
  have e2 : swS s 2 = s 0 := rfl
  unfold tnS at ht
  unfold ivQ
  rw [e0, e1, e2]
  refine ⟨⟨c0, by omega⟩, ⟨by omega, by omega⟩, ⟨a0, by omega⟩, ?_, d0, d1⟩
  rw [← hD]
  grind
theorem shS_me {D : Int} {s : Sq} (h : ivQ D s) (hw : wdS s) : meS (shS s) < meS s := by
  have h1 := (shS_iv h).2
  have e0 : shS s 0 = s 0 := rfl
  unfold meS
  rw [if_pos hw, if_neg h1]
  split <;> omega
theorem swS_me {D : Int} {s : Sq} (h : ivQ D s) (hw : ¬ wdS s) (ht : tnS s) : meS (swS s) < meS s := by
  obtain ⟨⟨a0, a1⟩, ⟨b0, b1⟩, ⟨c0, c1⟩, hD, d0, d1⟩ := h
  have e0 : swS s 0 = s 2 := rfl
  have e1 : swS s 1 = -(s 1) := rfl
  have e2 : swS s 2 = s 0 := rfl
  unfold meS
  rw [if_neg hw, if_pos ht]
  unfold tnS wdS at *
  rw [e0, e1, e2]
  by_cases h : s 2 < s 0
  · split
    · omega
    · split <;> omega
  · rw [if_neg (by omega), if_neg (by omega)]
    omega
/-- Math.floorDiv of longs -/
theorem t_floorDivJ {μ : Me} {a b : Int} (hb : 0 < b) (hb2 : b < 9223372036854775808) (h0 : -9223372036854775807 ≤ a) (h1 : a < 9223372036854775808) : s_J6_floorDiv a b μ = some (a / b, μ) := by
  have hw0 : w64 0 = 0 := rfl
  unfold s_J6_floorDiv dvJ
  rw [w64_id (x := b) (by omega) hb2, if_neg (by omega), w64_id (x := a) (by omega) h1, bsome, xoJ_r, hw0]
  have hs := xoJ_sign a b
  rw [w64_id (x := a) (by omega) h1, w64_id (x := b) (by omega) hb2] at hs
  have hm := Int.mul_tdiv_add_tmod a b
  by_cases ha : 0 ≤ a
  · rw [if_pos (hs.mpr (by omega)), Int.tdiv_eq_ediv_of_nonneg ha]
  · rw [if_neg (fun h => by have := hs.mp h; omega)]
    have hn := tmod_neg hb (show a < 0 by omega)
    have hd := Int.mul_ediv_add_emod a b
    have ht1 : -b < a.tmod b := Int.neg_lt_of_neg_lt (by have := Int.lt_tmod_of_pos a hb; omega)
    have ht0 : a.tmod b ≤ 0 := by
      have := Int.tmod_nonneg b (show 0 ≤ -a by omega)
      rw [Int.neg_tmod] at this
      omega
    have hcm : a.tdiv b * b = b * a.tdiv b := Int.mul_comm _ _
    rw [w64_id (x := a.tdiv b * b) (by omega) (by omega)]
    by_cases h9 : a.tmod b = 0
    · rw [if_pos (by omega)]
      rw [h9, if_pos rfl] at hn
      have : b * (a / b) = b * a.tdiv b := by omega
      rw [Int.eq_of_mul_eq_mul_left (show b ≠ 0 by omega) this]
    · rw [if_neg (by omega)]
      rw [if_neg h9] at hn
      have h8 : b * (a.tdiv b - 1) = b * a.tdiv b - b := by rw [Int.mul_sub, Int.mul_one]
      have : b * (a / b) = b * (a.tdiv b - 1) := by omega
      rw [Int.eq_of_mul_eq_mul_left (show b ≠ 0 by omega) this]
section TRe
variable {sh : Sh} {I J : Nat → Int → Int} {m : Nat}
def STq (J : Nat → Int → Int) (m : Nat) (s : Sq) : Prop := (J m 30 = s 0 ∧ J m 31 = s 1 ∧ J m 32 = s 2 ∧ J m 33 = s 3) ∧ (J (m + 15) 0 = s 4 ∧ J (m + 15) 1 = s 5 ∧ J (m + 15) 2 = s 6 ∧ J (m + 15) 3 = s 7)
theorem t_isWide (T : TL sh m) {s : Sq} {D : Int} (hs : STq J m s) (hi : ivQ D s) : s_X11_isWide m (sh, I, J) = some (if wdS s then 1 else 0, (sh, I, J)) := by
  obtain ⟨⟨a0, a1⟩, ⟨b0, b1⟩, ⟨c0, c1⟩, hD, d0, d1⟩ := hi
  unfold s_X11_isWide wdS
  simp (disch := omega) only [t_gJ T, bsome, hs.1.1, hs.1.2.1, w64_id]
  by_cases h1 : s 0 < s 1
  · rw [if_pos h1, if_pos (Or.inl h1)]
  · rw [if_neg h1]
    by_cases h2 : -(s 0) < s 1
    · rw [if_pos h2, if_neg (by omega)]
    · rw [if_neg h2, if_pos (by omega)]
theorem t_isTurned (T : TL sh m) {s : Sq} {D : Int} (hs : STq J m s) (hi : ivQ D s) : s_X11_isTurned m (sh, I, J) = some (if tnS s then 1 else 0, (sh, I, J)) := by
  obtain ⟨⟨a0, a1⟩, ⟨b0, b1⟩, ⟨c0, c1⟩, hD, d0, d1⟩ := hi
  unfold s_X11_isTurned tnS
  simp (disch := omega) only [t_gJ T, bsome, hs.1.1, hs.1.2.1, hs.1.2.2.1, w64_id]
  by_cases h1 : s 2 < s 0
  · rw [if_pos h1, if_pos (Or.inl h1)]
  · rw [if_neg h1]
    by_cases h2 : s 0 = s 2
    · rw [if_pos h2]
      by_cases h3 : 0 ≤ s 1
      · rw [if_pos h3, if_neg (by omega)]
      · rw [if_neg h3, if_pos (by omega)]
    · rw [if_neg h2, if_neg (by omega)]
theorem t_joinsWhole (T : TL sh m) (a b c d x y u v ch : Int) (h0 : J (m + 15) 0 = x) (h1 : J (m + 15) 1 = y) (h2 : J (m + 15) 2 = u) (h3 : J (m + 15) 3 = v) (h4 : J m 33 = ch) :
    ∃ J', s_X11_joinsWhole m a b c d (sh, I, J) = some (sh, I, J') ∧ HJ m J J' ∧ (∀ k : Int, k ≠ 33 → J' m k = J m k) ∧ J' m 33 = ch + 1 ∧ J' (m + 15) 0 = x * a + y * c ∧ J' (m + 15) 1 = x * b + y * d ∧ J' (m + 15) 2 = u * a + v * c ∧ J' (m + 15) 3 = u * b + v * d := by
  unfold s_X11_joinsWhole
  simp (disch := omega) only [bsome, t_ck T, t_gI T, t_pI T, t_gJ T, t_pJ T, tR_whole T, tA_whole T, tU_whole T, h0, h1, h2, h3, up1_up1, up1_s]
  refine ⟨_, rfl, fun q hq => ?_, fun k hk => ?_, ?_, ?_, ?_, ?_, ?_⟩
  · rw [up1_n _ _ (by omega), up1_n _ _ (by omega)]
  · rw [up1_s, upz_n _ _ hk, up1_n _ _ (by omega)]
  · rw [up1_s, upz_s, up1_n _ _ (by omega), h4]
  · rw [up1_n _ _ (by omega), up1_s, upz_n _ _ (by decide), upz_n _ _ (by decide), upz_n _ _ (by decide), upz_s]
  · rw [up1_n _ _ (by omega), up1_s, upz_n _ _ (by decide), upz_n _ _ (by decide), upz_s]
  · rw [up1_n _ _ (by omega), up1_s, upz_n _ _ (by decide), upz_s]
  · rw [up1_n _ _ (by omega), up1_s, upz_s]
theorem t_b126 (T : TL sh m) {s : Sq} {D : Int} (hs : STq J m s) (hi : ivQ D s) : ∃ J', s_X11_reduces_b126 m (sh, I, J) = some (.inl (sh, I, J')) ∧ STq J' m (if tnS s then swS s else s) ∧ HJ m J J' := by
  unfold s_X11_reduces_b126
  simp only [t_ck T, bsome, t_isTurned T hs hi]
  by_cases h : tnS s
  · rw [if_pos h, if_pos h, if_neg (show ¬ w32 1 = 0 by decide)]
    obtain ⟨⟨g0, g1, g2, g3⟩, g4, g5, g6, g7⟩ := hs
    simp (disch := omega) only [t_gJ T, t_pJ T, bsome, up1_up1, up1_s, g0, g2]
    rw [upz_n _ _ (show (31 : Int) ≠ 32 by decide), upz_n _ _ (show (31 : Int) ≠ 30 by decide), g1]
    obtain ⟨J1, hJ1⟩ : ∃ J1, up1 J m (upz (upz (upz (J m) 30 (s 2)) 32 (s 0)) 31 (-(s 1))) = J1 := ⟨_, rfl⟩
    rw [hJ1]
    have o1 : J1 (m + 15) = J (m + 15) := by rw [← hJ1, up1_n _ _ (by omega)]
    have o2 : J1 m 33 = s 3 := by rw [← hJ1, up1_s, upz_n _ _ (by decide), upz_n _ _ (by decide), upz_n _ _ (by decide), g3]
    obtain ⟨J2, e2, k1, k2, k3, k4, k5, k6, k7⟩ := t_joinsWhole (I := I) T 0 (-1) 1 0 (s 4) (s 5) (s 6) (s 7) (s 3) (J := J1) (by rw [o1, g4]) (by rw [o1, g5]) (by rw [o1, g6]) (by rw [o1, g7]) o2
    rw [t_ck T, bsome, e2]
    refine ⟨J2, rfl, ⟨⟨?_, ?_, ?_, ?_⟩, ?_, ?_, ?_, ?_⟩, fun q hq => ?_⟩
    · rw [k2 _ (by decide), ← hJ1, up1_s, upz_n _ _ (by decide), upz_n _ _ (by decide), upz_s]; rfl
    · rw [k2 _ (by decide), ← hJ1, up1_s, upz_s]; rfl
    · rw [k2 _ (by decide), ← hJ1, up1_s, upz_n _ _ (by decide), upz_s]; rfl
    · rw [k3]; rfl
    · rw [k4]; show s 4 * 0 + s 5 * 1 = s 5; omega
    · rw [k5]; show s 4 * -1 + s 5 * 0 = -(s 4); omega
    · rw [k6]; show s 6 * 0 + s 7 * 1 = s 7; omega
    · rw [k7]; show s 6 * -1 + s 7 * 0 = -(s 6); omega
    · rw [k1 q hq, ← hJ1, up1_n _ _ (by omega)]
  · rw [if_neg h, if_neg h, if_pos (show w32 0 = 0 from rfl)]
    exact ⟨J, rfl, hs, HJ.refl⟩
theorem t_b47 (T : TL sh m) {s : Sq} {D : Int} (hs : STq J m s) (hi : ivQ D s) : ∃ J', s_X11_reduces_b47 m (sh, I, J) = some (.inl (sh, I, J')) ∧ STq J' m (if tnS (if wdS s then shS s else s) then swS (if wdS s then shS s else s) else (if wdS s then shS s else s)) ∧ HJ m J J' := by
  have hi0 := hi
  obtain ⟨⟨a0, a1⟩, ⟨b0, b1⟩, ⟨c0, c1⟩, hD, d0, d1⟩ := hi
  unfold s_X11_reduces_b47
  simp only [t_ck T, bsome, t_isWide T hs hi0]
  by_cases h : wdS s
  · rw [if_pos h, if_pos h, if_neg (show ¬ w32 1 = 0 by decide)]
    obtain ⟨⟨g0, g1, g2, g3⟩, g4, g5, g6, g7⟩ := hs
    have ef := t_floorDivJ (μ := ((sh, I, J) : Me)) (a := s 0 - s 1) (b := 2 * s 0) (by omega) (by omega) (by omega) (by omega)
    have hN : (s 0 - s 1) / (2 * s 0) = shN s := rfl
    rw [hN] at ef
    simp (disch := omega) only [t_gJ T, t_pJ T, bsome, up1_up1, up1_s, g0, g1, g2, ef]
    rw [upz_n _ _ (show (31 : Int) ≠ 32 by decide), upz_n _ _ (show (30 : Int) ≠ 32 by decide), g1, g0]
    obtain ⟨n, hn⟩ : ∃ n, shN s = n := ⟨_, rfl⟩
    rw [hn]
    obtain ⟨J1, hJ1⟩ : ∃ J1, up1 J m (upz (upz (J m) 32 (s 0 * n * n + s 1 * n + s 2)) 31 (s 1 + 2 * s 0 * n)) = J1 := ⟨_, rfl⟩
    rw [hJ1]
    have o1 : J1 (m + 15) = J (m + 15) := by rw [← hJ1, up1_n _ _ (by omega)]
    have o2 : J1 m 33 = s 3 := by rw [← hJ1, up1_s, upz_n _ _ (by decide), upz_n _ _ (by decide), g3]
    obtain ⟨J2, e2, k1, k2, k3, k4, k5, k6, k7⟩ := t_joinsWhole (I := I) T 1 n 0 1 (s 4) (s 5) (s 6) (s 7) (s 3) (J := J1) (by rw [o1, g4]) (by rw [o1, g5]) (by rw [o1, g6]) (by rw [o1, g7]) o2
    have hs2 : STq J2 m (shS s) := by
      refine ⟨⟨?_, ?_, ?_, ?_⟩, ?_, ?_, ?_, ?_⟩
      · rw [k2 _ (by decide), ← hJ1, up1_s, upz_n _ _ (by decide), upz_n _ _ (by decide), g0]; rfl
      · rw [k2 _ (by decide), ← hJ1, up1_s, upz_s]; show _ = s 1 + 2 * s 0 * shN s; rw [hn]
      · rw [k2 _ (by decide), ← hJ1, up1_s, upz_n _ _ (by decide), upz_s]; show _ = s 0 * shN s * shN s + s 1 * shN s + s 2; rw [hn]
      · rw [k3]; rfl
      · rw [k4]; show s 4 * 1 + s 5 * 0 = s 4; omega
      · rw [k5]; show s 4 * n + s 5 * 1 = s 4 * shN s + s 5; rw [hn, Int.mul_one]
      · rw [k6]; show s 6 * 1 + s 7 * 0 = s 6; omega
      · rw [k7]; show s 6 * n + s 7 * 1 = s 6 * shN s + s 7; rw [hn, Int.mul_one]
    obtain ⟨J3, e3, s3, q3⟩ := t_b126 (I := I) T hs2 (shS_iv hi0).1
    rw [t_ck T, bsome, e2, bsome, e3]
    refine ⟨J3, rfl, s3, fun q hq => ?_⟩
    rw [q3 q hq, k1 q hq, ← hJ1, up1_n _ _ (by omega)]
  · rw [if_neg h, if_neg h, if_pos (show w32 0 = 0 from rfl)]
    exact t_b126 T hs hi0
theorem t_l33 (T : TL sh m) {D : Int} : ∀ (n : Nat) (s : Sq) (J : Nat → Int → Int), meS s < n → STq J m s → ivQ D s → ∃ J', s_X11_reduces_l33 m (sh, I, J) = some (sh, I, J') ∧ STq J' m (rdS n s) ∧ HJ m J J' ∧ ivQ D (rdS n s)
  | 0, _, _, h, _, _ => absurd h (Nat.not_lt_zero _)
  | n + 1, s, J, h, hs, hi => by
    have go : ∀ J1 : Nat → Int → Int, (wdS s ∨ tnS s) → s_X11_reduces_b47 m (sh, I, J) = some (.inl (sh, I, J1)) → s_X11_reduces_l33 m (sh, I, J) = s_X11_reduces_l33 m (sh, I, J1) := by
      intro J1 hw e
      rw [e_X11_reduces_l33]
      unfold s_X11_reduces_l33_st
      simp only [t_ck T, bsome, t_isWide T hs hi, t_isTurned T hs hi]
      by_cases h1 : wdS s
      · rw [if_pos h1, if_neg (show ¬ w32 1 = 0 by decide), e]
        rfl
      · have h2 : tnS s := by rcases hw with h9 | h9; exact absurd h9 h1; exact h9
        rw [if_neg h1, if_pos (show w32 0 = 0 from rfl), if_pos h2, if_neg (show ¬ w32 1 = 0 by decide), e]
        rfl
    by_cases h1 : wdS s
    · obtain ⟨J1, e1, s1, k1⟩ := t_b47 (I := I) T hs hi
      rw [if_pos h1] at s1
      obtain ⟨i1, w1⟩ := shS_iv hi
      have m1 := shS_me hi h1
      have r1 : rdS (n + 1) s = rdS n (shS s) := if_pos h1
      by_cases h2 : tnS (shS s)
      · rw [if_pos h2] at s1
        have m2 := swS_me i1 w1 h2
        obtain ⟨n', rfl⟩ : ∃ n', n = n' + 1 := ⟨n - 1, by omega⟩
        obtain ⟨J2, e2, s2, k2, i2⟩ := t_l33 T n' (swS (shS s)) J1 (by omega) s1 (swS_iv i1 w1 h2)
        have r2 : rdS (n' + 1) (shS s) = rdS n' (swS (shS s)) := by
          show (if wdS (shS s) then _ else if tnS (shS s) then _ else _) = _
          rw [if_neg w1, if_pos h2]
        rw [r1, r2, go J1 (Or.inl h1) e1]
        exact ⟨J2, e2, s2, k1.trans k2, i2⟩
      · rw [if_neg h2] at s1
        obtain ⟨J2, e2, s2, k2, i2⟩ := t_l33 T n (shS s) J1 (by omega) s1 i1
        rw [r1, go J1 (Or.inl h1) e1]
        exact ⟨J2, e2, s2, k1.trans k2, i2⟩
    · by_cases h2 : tnS s
      · obtain ⟨J1, e1, s1, k1⟩ := t_b47 (I := I) T hs hi
        rw [if_neg h1, if_pos h2] at s1
        have m2 := swS_me hi h1 h2
        obtain ⟨J2, e2, s2, k2, i2⟩ := t_l33 T n (swS s) J1 (by omega) s1 (swS_iv hi h1 h2)
        have r2 : rdS (n + 1) s = rdS n (swS s) := by
          show (if wdS s then _ else if tnS s then _ else _) = _
          rw [if_neg h1, if_pos h2]
        rw [r2, go J1 (Or.inr h2) e1]
        exact ⟨J2, e2, s2, k1.trans k2, i2⟩
      · have r2 : rdS (n + 1) s = s := by
          show (if wdS s then _ else if tnS s then _ else _) = _
          rw [if_neg h1, if_neg h2]
        rw [r2]
        refine ⟨J, ?_, hs, HJ.refl, hi⟩
        rw [e_X11_reduces_l33]
        unfold s_X11_reduces_l33_st
        simp only [t_ck T, bsome, t_isWide T hs hi, t_isTurned T hs hi]
        rw [if_neg h1, if_pos (show w32 0 = 0 from rfl), if_neg h2, if_pos (show w32 0 = 0 from rfl)]
        rfl
def rdF (a b c : Int) : Sq := rdS 5000 (eq8 a b c 0 1 0 0 1)
def rdP (a b c k : Int) : Int :=
  if k = 8 then (if rdF a b c 0 = rdF a b c 2 then (if rdF a b c 1 = 0 then 4 else if rdF a b c 1 = rdF a b c 0 then 6 else 2) else 2)
  else rdF a b c k
abbrev rdOk (a b c : Int) : Prop := (1 ≤ a ∧ a ≤ 999) ∧ (-999 ≤ b ∧ b ≤ 999) ∧ (-999 ≤ c ∧ c ≤ 999) ∧ b * b - 4 * a * c < 0
theorem rdOk_iv {a b c : Int} (h : rdOk a b c) : ivQ (b * b - 4 * a * c) (eq8 a b c 0 1 0 0 1) := by
  obtain ⟨⟨a0, a1⟩, ⟨b0, b1⟩, ⟨c0, c1⟩, hD⟩ := h
  have hb0 : 0 ≤ b * b := by
    rcases Int.le_total 0 b with h | h
    · exact Int.mul_nonneg h h
    · have := Int.mul_nonneg (show 0 ≤ -b by omega) (show 0 ≤ -b by omega)
      rwa [Int.neg_mul_neg] at this
  have hac : 4 * a * c = 4 * (a * c) := Int.mul_assoc _ _ _
  have hcp : 0 < c := by
    by_cases h : 0 < c
    · exact h
    · exfalso
      have := Int.mul_nonneg (show 0 ≤ a by omega) (show 0 ≤ -c by omega)
      rw [Int.mul_neg] at this
      omega
  have hmul : a * c ≤ 999 * 999 := Int.mul_le_mul a1 c1 (by omega) (by omega)
  exact ⟨⟨by show 0 < a; omega, a1⟩, ⟨b0, b1⟩, ⟨hcp, by show c ≤ _; omega⟩, rfl, by omega, hD⟩
theorem t_reduces (T : TL sh m) {a b c : Int} (h : rdOk a b c) (h0 : J m 30 = a) (h1 : J m 31 = b) (h2 : J m 32 = c) : ∃ J', s_X11_reduces m (sh, I, J) = some (sh, I, J') ∧ STq J' m (rdF a b c) ∧ HJ m J J' ∧ ivQ (b * b - 4 * a * c) (rdF a b c) := by
  unfold s_X11_reduces
  simp (disch := omega) only [bsome, t_ck T, t_gI T, t_pI T, t_gJ T, t_pJ T, tR_whole T, tA_whole T, tU_whole T, up1_up1, up1_s]
  obtain ⟨J1, hJ1⟩ : ∃ J1, up1 (up1 J m (upz (J m) 33 0)) (m + 15) (upz (upz (upz (upz (up1 J m (upz (J m) 33 0) (m + 15)) 0 1) 1 0) 2 0) 3 1) = J1 := ⟨_, rfl⟩
  rw [hJ1]
  have st : STq J1 m (eq8 a b c 0 1 0 0 1) := by
    rw [← hJ1]
    refine ⟨⟨?_, ?_, ?_, ?_⟩, ?_, ?_, ?_, ?_⟩
    · rw [up1_n _ _ (by omega), up1_s, upz_n _ _ (by decide), h0]; rfl
    · rw [up1_n _ _ (by omega), up1_s, upz_n _ _ (by decide), h1]; rfl
    · rw [up1_n _ _ (by omega), up1_s, upz_n _ _ (by decide), h2]; rfl
    · rw [up1_n _ _ (by omega), up1_s, upz_s]; rfl
    · rw [up1_s, upz_n _ _ (by decide), upz_n _ _ (by decide), upz_n _ _ (by decide), upz_s]; rfl
    · rw [up1_s, upz_n _ _ (by decide), upz_n _ _ (by decide), upz_s]; rfl
    · rw [up1_s, upz_n _ _ (by decide), upz_s]; rfl
    · rw [up1_s, upz_s]; rfl
  have hi := rdOk_iv h
  have hm : meS (eq8 a b c 0 1 0 0 1) < 5000 := by
    have : eq8 a b c 0 1 0 0 1 0 = a := rfl
    have h9 := h.1.2
    unfold meS
    split
    · omega
    · split <;> omega
  obtain ⟨J2, e2, s2, k2, i2⟩ := t_l33 (I := I) T 5000 _ J1 hm st hi
  refine ⟨J2, e2, s2, fun q hq => ?_, i2⟩
  rw [k2 q hq, ← hJ1, up1_n _ _ (by omega), up1_n _ _ (by omega)]
theorem x_isThousand {x : Int} (hx : i32 x) (μ : Me) : s_X11_isThousand x μ = some (if -999 ≤ x ∧ x ≤ 999 then 1 else 0, μ) := by
  unfold s_X11_isThousand
  rw [x_in hx ⟨by omega, by omega⟩ ⟨by omega, by omega⟩, bsome]
  dsimp only
  rw [bz2_m (by split <;> simp), bsome]
theorem t_reduced (T : TL sh m) {a b c k : Int} (ha : i32 a) (hb : i32 b) (hc : i32 c) (hk : i32 k) :
    (rdOk a b c → (0 ≤ k ∧ k ≤ 8) → QG (s_X11_reduced m a b c k (sh, I, J)) sh I J m (rdP a b c k)) ∧ (¬ rdOk a b c → QB (s_X11_reduced m a b c k (sh, I, J)) sh I J m 1) ∧ (rdOk a b c → ¬(0 ≤ k ∧ k ≤ 8) → QB (s_X11_reduced m a b c k (sh, I, J)) sh I J m 2) := by
  obtain ⟨J1, hJ1⟩ : ∃ J1, up1 J m (upz (upz (upz (J m) 30 a) 31 b) 32 c) = J1 := ⟨_, rfl⟩
  have kJ : HJ m J J1 := fun q hq => by rw [← hJ1, up1_n _ _ (by omega)]
  have j0 : J1 m 30 = a := by rw [← hJ1, up1_s, upz_n _ _ (by decide), upz_n _ _ (by decide), upz_s]
  have j1 : J1 m 31 = b := by rw [← hJ1, up1_s, upz_n _ _ (by decide), upz_s]
  have j2 : J1 m 32 = c := by rw [← hJ1, up1_s, upz_s]
  have ek := x_in (lo := 0) (hi := 8) hk ⟨by omega, by omega⟩ ⟨by omega, by omega⟩
  have e1 := x_isThousand ha (sh, thr I m 0, J1)
  have e2 := x_isThousand hb (sh, thr I m 0, J1)
  have e3 := x_isThousand hc (sh, thr I m 0, J1)
  have ok : rdOk a b c → s_X11_reduced m a b c k (sh, I, J) = s_X11_reduced_b71 m k 0 (sh, thr I m 0, J1) := by
    intro h
    obtain ⟨⟨a0, a1⟩, ⟨b0, b1⟩, ⟨c0, c1⟩, hD⟩ := h
    have hsq := sq_le (x := b) (m := 999) b0 b1
    have hac : 4 * a * c = 4 * (a * c) := Int.mul_assoc _ _ _
    have hm1 : a * c ≤ 999 * 999 := by
      rcases Int.le_total 0 c with h | h
      · exact Int.mul_le_mul a1 c1 h (by omega)
      · have := Int.mul_nonneg (show 0 ≤ a by omega) (show 0 ≤ -c by omega)
        rw [Int.mul_neg] at this
        omega
    have hm2 : -(999 * 999) ≤ a * c := by
      rcases Int.le_total 0 c with h | h
      · have := Int.mul_nonneg (show 0 ≤ a by omega) h
        omega
      · have := Int.mul_le_mul a1 (show -c ≤ 999 by omega) (show 0 ≤ -c by omega) (by omega)
        rw [Int.mul_neg] at this
        omega
    have hb0 : 0 ≤ b * b := by
      rcases Int.le_total 0 b with h | h
      · exact Int.mul_nonneg h h
      · have := Int.mul_nonneg (show 0 ≤ -b by omega) (show 0 ≤ -b by omega)
        rwa [Int.neg_mul_neg] at this
    rw [if_pos ⟨by omega, a1⟩] at e1
    rw [if_pos ⟨b0, b1⟩] at e2
    rw [if_pos ⟨c0, c1⟩] at e3
    unfold s_X11_reduced
    simp (disch := omega) only [t_thr T, t_pJ T, bsome, w32_id (x := a), w32_id (x := b), w32_id (x := c), up1_up1, up1_s, hJ1, e1, e2, e3, w32_id (x := 1), if_neg, ifT]
    rw [w64_id (by omega) (by omega), w64_id (by omega) (by omega), if_pos (by omega)]
  refine ⟨fun h hkk => ?_, fun h => ?_, fun h hkk => ?_⟩
  · rw [ok h]
    obtain ⟨J2, e4, ⟨⟨g0, g1, g2, g3⟩, g4, g5, g6, g7⟩, k4, i4⟩ := t_reduces (I := thr I m 0) T h j0 j1 j2
    have fin : ∀ v, s_X11_reduced_b71 m k 0 (sh, thr I m 0, J1) = some (v, (sh, thr I m 0, J2)) → v = rdP a b c k → QG (s_X11_reduced_b71 m k 0 (sh, thr I m 0, J1)) sh I J m (rdP a b c k) := by
      intro v e ev
      rw [← ev, e]
      exact ⟨_, _, rfl, HK.refl, kJ.trans k4⟩
    obtain ⟨⟨a0, a1⟩, ⟨b0, b1⟩, ⟨c0, c1⟩, hD, d0, d1⟩ := i4
    obtain ⟨s, hs⟩ : ∃ s, rdF a b c = s := ⟨_, rfl⟩
    unfold rdP at fin ⊢
    rw [hs] at g0 g1 g2 g3 g4 g5 g6 g7 a0 a1 b0 b1 c0 c1 fin ⊢
    have common : s_X11_reduced_b71 m k 0 (sh, thr I m 0, J1) = some ((if k = 8 then (if s 0 = s 2 then (if s 1 = 0 then 4 else if s 1 = s 0 then 6 else 2) else 2) else s k), (sh, thr I m 0, J2)) := by
      unfold s_X11_reduced_b71
      simp (disch := omega) only [t_ck T, bsome, t_if0, w32_id (x := 0), if_pos, ifT]
      rw [ek, bsome, if_pos hkk]
      dsimp only
      rw [if_neg (show ¬ w32 1 = 0 by decide)]
      unfold s_X11_reduced_b100
      simp (disch := omega) only [bsome, t_ck T, t_gI T, t_pI T, t_gJ T, t_pJ T, tR_whole T, tA_whole T, tU_whole T, t_if0, w32_id (x := 0), w32_id (x := 1), w32_id (x := 2), w32_id (x := 3), w32_id (x := 8), if_pos, e4, g0, g1, g2, g3, ifT]
      rw [w32_id hk.1 hk.2]
      have hk9 : k = 0 ∨ k = 1 ∨ k = 2 ∨ k = 3 ∨ k = 4 ∨ k = 5 ∨ k = 6 ∨ k = 7 ∨ k = 8 := by omega
      rcases hk9 with rfl | rfl | rfl | rfl | rfl | rfl | rfl | rfl | rfl
      · rfl
      · rfl
      · rfl
      · rfl
      · rw [if_neg (by decide), if_neg (by decide), if_neg (by decide), if_neg (by decide), if_neg (by decide), if_neg (by decide), tA_whole T (by decide) (by decide), bsome, show (4 : Int) - 4 = 0 from rfl, g4]
      · rw [if_neg (by decide), if_neg (by decide), if_neg (by decide), if_neg (by decide), if_neg (by decide), if_neg (by decide), tA_whole T (by decide) (by decide), bsome, show (5 : Int) - 4 = 1 from rfl, g5]
      · rw [if_neg (by decide), if_neg (by decide), if_neg (by decide), if_neg (by decide), if_neg (by decide), if_neg (by decide), tA_whole T (by decide) (by decide), bsome, show (6 : Int) - 4 = 2 from rfl, g6]
      · rw [if_neg (by decide), if_neg (by decide), if_neg (by decide), if_neg (by decide), if_neg (by decide), if_neg (by decide), tA_whole T (by decide) (by decide), bsome, show (7 : Int) - 4 = 3 from rfl, g7]
      · rw [if_neg (by decide), if_neg (by decide), if_neg (by decide), if_neg (by decide), if_pos rfl, if_pos rfl]
        unfold s_X11_turnsOf
        rw [w64_id (x := s 0) (by omega) (by omega), w64_id (x := s 1) (by omega) (by omega), w64_id (x := s 2) (by omega) (by omega), show w64 0 = 0 from rfl]
        by_cases h1 : s 0 = s 2
        · rw [if_pos h1, if_pos h1]
          by_cases h2 : s 1 = 0
          · rw [if_pos h2, if_pos h2]; rfl
          · rw [if_neg h2, if_neg h2]
            by_cases h3 : s 1 = s 0
            · rw [if_pos h3, if_pos h3]; rfl
            · rw [if_neg h3, if_neg h3]; rfl
        · rw [if_neg h1, if_neg h1]; rfl
    exact fin _ common rfl
  · have bad : s_X11_reduced m a b c k (sh, I, J) = s_X11_reduced_b66 m k (sh, thr I m 0, J1) := by
      unfold i32 at ha hb hc
      unfold s_X11_reduced
      simp (disch := omega) only [t_thr T, t_pJ T, bsome, w32_id (x := a), w32_id (x := b), w32_id (x := c), up1_up1, up1_s, hJ1, e1, e2, e3]
      by_cases h1 : -999 ≤ a ∧ a ≤ 999
      · rw [if_pos h1, if_neg (show ¬ w32 1 = 0 by decide)]
        by_cases h2 : -999 ≤ b ∧ b ≤ 999
        · rw [if_pos h2, if_neg (show ¬ w32 1 = 0 by decide)]
          by_cases h3 : -999 ≤ c ∧ c ≤ 999
          · rw [if_pos h3, if_neg (show ¬ w32 1 = 0 by decide)]
            by_cases h4 : a ≤ 0
            · rw [if_pos h4]
            · rw [if_neg h4]
              have hsq := sq_le (x := b) (m := 999) h2.1 h2.2
              have hac : 4 * a * c = 4 * (a * c) := Int.mul_assoc _ _ _
              have hb0 : 0 ≤ b * b := by
                rcases Int.le_total 0 b with h | h
                · exact Int.mul_nonneg h h
                · have := Int.mul_nonneg (show 0 ≤ -b by omega) (show 0 ≤ -b by omega)
                  rwa [Int.neg_mul_neg] at this
              have hm1 : a * c ≤ 999 * 999 := by
                rcases Int.le_total 0 c with h | h
                · exact Int.mul_le_mul h1.2 h3.2 h (by omega)
                · have := Int.mul_nonneg (show 0 ≤ a by omega) (show 0 ≤ -c by omega)
                  rw [Int.mul_neg] at this
                  omega
              have hm2 : -(999 * 999) ≤ a * c := by
                rcases Int.le_total 0 c with h | h
                · have := Int.mul_nonneg (show 0 ≤ a by omega) h
                  omega
                · have := Int.mul_le_mul h1.2 (show -c ≤ 999 by omega) (show 0 ≤ -c by omega) (by omega)
                  rw [Int.mul_neg] at this
                  omega
              rw [w64_id (by omega) (by omega), w64_id (by omega) (by omega), if_neg]
              intro h9
              exact h ⟨⟨by omega, h1.2⟩, h2, h3, by omega⟩
          · rw [if_neg h3]; rfl
        · rw [if_neg h2]; rfl
      · rw [if_neg h1]; rfl
    rw [bad]
    unfold s_X11_reduced_b66 s_X11_reduced_b71
    simp (disch := omega) only [t_ck T, bsome, t_if1 T, w32_id, if_neg, thr_thr, ifT]
    exact ⟨_, _, _, rfl, HK.refl, kJ⟩
  · rw [ok h]
    unfold s_X11_reduced_b71
    simp (disch := omega) only [t_ck T, bsome, t_if0, w32_id (x := 0), if_pos, ifT]
    rw [ek, bsome, if_neg hkk]
    dsimp only
    rw [if_pos (show w32 0 = 0 from rfl)]
    unfold s_X11_reduced_b100
    simp (disch := omega) only [t_ck T, bsome, t_if1 T, w32_id, if_neg, thr_thr, ifT]
    exact ⟨_, _, _, rfl, HK.refl, kJ⟩
end TRe
