/-! the twin's field -/
set_option maxRecDepth 100000
def Pp (p : Int) : Prop := p = 11 ∨ p = 13 ∨ p = 17 ∨ p = 19
theorem Pp.b {p : Int} (h : Pp p) : 11 ≤ p ∧ p ≤ 19 := by
  rcases h with h | h | h | h <;> omega
theorem bv_xor_sign {n : Nat} (a b : BitVec n) : 0 ≤ (a ^^^ b).toInt ↔ (a.toInt < 0 ↔ b.toInt < 0) := by
  have h := BitVec.msb_xor (x := a) (y := b)
  rw [BitVec.msb_eq_toInt, BitVec.msb_eq_toInt, BitVec.msb_eq_toInt] at h
  by_cases h1 : (a ^^^ b).toInt < 0 <;> by_cases h2 : a.toInt < 0 <;> by_cases h3 : b.toInt < 0 <;> simp [h1, h2, h3] at h ⊢ <;> omega
theorem xoJ_sign (a b : Int) : 0 ≤ xoJ a b ↔ (w64 a < 0 ↔ w64 b < 0) := by
  rw [← w64_eq, ← w64_eq]
  exact bv_xor_sign _ _
theorem xoI_sign (a b : Int) : 0 ≤ xoI a b ↔ (w32 a < 0 ↔ w32 b < 0) := by
  rw [← w32_eq, ← w32_eq]
  exact bv_xor_sign _ _
theorem xoJ_r (a b : Int) : w64 (xoJ a b) = xoJ a b := by
  unfold xoJ
  have h1 := Int64.le_toInt (Int64.ofInt a ^^^ Int64.ofInt b)
  have h2 := Int64.toInt_lt (Int64.ofInt a ^^^ Int64.ofInt b)
  exact w64_id (by omega) (by omega)
theorem xoI_r (a b : Int) : w32 (xoI a b) = xoI a b := by
  unfold xoI
  have h1 := Int32.le_toInt (Int32.ofInt a ^^^ Int32.ofInt b)
  have h2 := Int32.toInt_lt (Int32.ofInt a ^^^ Int32.ofInt b)
  exact w32_id (by omega) (by omega)
theorem tmod_pos {a p : Int} (hp : 0 < p) (h : 0 ≤ a) : a.tmod p = a % p := Int.tmod_eq_emod_of_nonneg h
theorem tmod_neg {a p : Int} (hp : 0 < p) (h : a < 0) : a % p = if a.tmod p = 0 then 0 else a.tmod p + p := by
  have h1 := Int.emod_nonneg a (show p ≠ 0 by omega)
  have h2 := Int.emod_lt_of_pos a hp
  rw [Int.tmod_eq_emod]
  by_cases hd : p ∣ a
  · rw [if_pos (Or.inr hd)]
    have := Int.emod_eq_zero_of_dvd hd
    rw [this]
    rfl
  · rw [if_neg (show ¬(0 ≤ a ∨ p ∣ a) by rintro (h9 | h9) <;> first | omega | exact hd h9)]
    have h3 : a % p ≠ 0 := fun h => hd (Int.dvd_of_emod_eq_zero h)
    have h4 : (p.natAbs : Int) = p := by omega
    rw [h4, if_neg (by omega)]
    omega
/-- Math.floorMod of longs -/
theorem t_floorModJ {μ : Me} {a p : Int} (hp : 0 < p) (hp2 : p < 9223372036854775808) (h0 : -9223372036854775808 ≤ a) (h1 : a < 9223372036854775808) : s_J6_floorMod_2 a p μ = some (a % p, μ) := by
  unfold s_J6_floorMod_2 rmJ
  rw [w64_id h0 h1, w64_id (by omega) hp2, if_neg (by omega), bsome, xoJ_r, show w64 0 = 0 from rfl]
  have hs := xoJ_sign a p
  rw [w64_id h0 h1, w64_id (by omega) hp2] at hs
  have ht1 : -p < a.tmod p := Int.neg_lt_of_neg_lt (by have := Int.lt_tmod_of_pos a hp; omega)
  have ht2 : a.tmod p < p := Int.tmod_lt_of_pos a hp
  rw [w64_id (by omega) (by omega)]
  by_cases ha : 0 ≤ a
  · rw [if_pos (hs.mpr (by omega)), tmod_pos hp ha]
  · rw [if_neg (fun h => by have := hs.mp h; omega), tmod_neg hp (by omega)]
    split
    · next h => rw [h]
    · rfl
theorem t_floorModI {μ : Me} {a p : Int} (hp : 0 < p) (hp2 : p < 2147483648) (h0 : -2147483648 ≤ a) (h1 : a < 2147483648) : s_J6_floorMod a p μ = some (a % p, μ) := by
  unfold s_J6_floorMod rmI
  rw [w32_id h0 h1, w32_id (by omega) hp2, if_neg (by omega), bsome, xoI_r]
  have hs := xoI_sign a p
  rw [w32_id h0 h1, w32_id (by omega) hp2] at hs
  have ht1 : -p < a.tmod p := Int.neg_lt_of_neg_lt (by have := Int.lt_tmod_of_pos a hp; omega)
  have ht2 : a.tmod p < p := Int.tmod_lt_of_pos a hp
  rw [w32_id (by omega) (by omega)]
  by_cases ha : 0 ≤ a
  · rw [if_pos (hs.mpr (by omega)), tmod_pos hp ha]
  · rw [if_neg (fun h => by have := hs.mp h; omega), tmod_neg hp (by omega)]
    split
    · next h => rw [h]
    · rfl
section TN
variable {sh : Sh} {I J : Nat → Int → Int} {m : Nat} {p : Int}
theorem t_p (T : TL sh m) : s_X11_p m (sh, I, J) = some (I (m + 1) 0, (sh, I, J)) := by
  unfold s_X11_p
  simp (disch := omega) only [bsome, t_ck T, t_gI T, t_pI T, t_gJ T, t_pJ T, tR_world T, tA_world T, tU_world T]
theorem t_mod (T : TL sh m) (hI : I (m + 1) 0 = p) (hp : Pp p) {v : Int} (h0 : -9223372036854775808 ≤ v) (h1 : v < 9223372036854775808) : s_X11_mod m v (sh, I, J) = some (v % p, (sh, I, J)) := by
  have hb := hp.b
  unfold s_X11_mod
  simp only [t_ck T, bsome, t_p T, hI]
  rw [w32_id (by omega) (by omega), t_floorModJ (by omega) (by omega) h0 h1]
  rfl
theorem t_plus (T : TL sh m) (hI : I (m + 1) 0 = p) (hp : Pp p) {a b : Int} (h0 : 0 ≤ a + b) (h1 : a + b < 2147483648) : s_X11_plus m a b (sh, I, J) = some ((a + b) % p, (sh, I, J)) := by
  have hb := hp.b
  unfold s_X11_plus
  simp only [t_ck T, bsome, t_p T, hI]
  rw [rmI_m (by omega) h1 (by omega) (by omega), tmod_pos (by omega) h0]
  rfl
theorem t_less (T : TL sh m) (hI : I (m + 1) 0 = p) (hp : Pp p) {a b : Int} (h0 : 0 ≤ a - b + p) (h1 : a - b < 2147483000) : s_X11_less m a b (sh, I, J) = some ((a - b) % p, (sh, I, J)) := by
  have hb := hp.b
  unfold s_X11_less
  simp only [t_ck T, bsome, t_p T, hI]
  rw [rmI_m (by omega) (by omega) (by omega) (by omega), tmod_pos (by omega) h0, Int.add_emod_right]
  rfl
theorem t_times (T : TL sh m) (hI : I (m + 1) 0 = p) (hp : Pp p) {a b : Int} (h0 : 0 ≤ a * b) (h1 : a * b < 2147483648) : s_X11_times m a b (sh, I, J) = some (a * b % p, (sh, I, J)) := by
  have hb := hp.b
  unfold s_X11_times
  simp only [t_ck T, bsome, t_p T, hI]
  rw [rmI_m (by omega) h1 (by omega) (by omega), tmod_pos (by omega) h0]
  rfl
/-- below p: the product is small -/
theorem mul_b {p a b : Int} (hp : Pp p) (ha : 0 ≤ a ∧ a < p) (hb : 0 ≤ b ∧ b < p) : 0 ≤ a * b ∧ a * b < 400 := by
  have h := hp.b
  have h1 : a * b ≤ 19 * 19 := Int.mul_le_mul (by omega) (by omega) hb.1 (by omega)
  exact ⟨Int.mul_nonneg ha.1 hb.1, by omega⟩
theorem emod_b {p : Int} (hp : Pp p) (a : Int) : 0 ≤ a % p ∧ a % p < p := by
  have h := hp.b
  exact ⟨Int.emod_nonneg _ (by omega), Int.emod_lt_of_pos _ (by omega)⟩
theorem emod_mul_l (a b p : Int) : a % p * b % p = a * b % p := by
  rw [Int.mul_emod, Int.emod_emod_of_dvd _ (Int.dvd_refl p), ← Int.mul_emod]
theorem emod_mul_r (a b p : Int) : a * (b % p) % p = a * b % p := by
  rw [Int.mul_emod, Int.emod_emod_of_dvd _ (Int.dvd_refl p), ← Int.mul_emod]
theorem t_power (T : TL sh m) (hI : I (m + 1) 0 = p) (hp : Pp p) {a n : Int} (ha : 0 ≤ a ∧ a < p) (h0 : 0 ≤ n) (h1 : n < 1000000) : s_X11_power m a n (sh, I, J) = some (a ^ n.toNat % p, (sh, I, J)) := by
  have hb := hp.b
  unfold s_X11_power s_X11_power_l5
  refine whileO_tr n.toNat (fun i => (a ^ i % p, (i : Int), (sh, I, J))) ?_ (fun i hi => ?_) ?_
  · rw [Int.pow_zero, Int.emod_eq_of_lt (by omega) (by omega)]
    rfl
  · unfold s_X11_power_l5_st
    have h9 := mul_b hp (emod_b hp (a ^ i)) ha
    dsimp only
    rw [w32_id (by omega) (by omega), w32_id (by omega) (by omega), if_neg (by omega), t_ck T, bsome, t_times T hI hp h9.1 (by omega), bsome, Int.pow_succ, emod_mul_l]
    rfl
  · unfold s_X11_power_l5_st
    dsimp only
    rw [w32_id (by omega) (by omega), w32_id (by omega) (by omega), if_pos (by omega)]
/-- the inverse as both reckon it -/
def ivS (p a : Int) : Int := a ^ (p - 2).toNat % p
theorem t_inverse (T : TL sh m) (hI : I (m + 1) 0 = p) (hp : Pp p) {a : Int} (ha : 0 ≤ a ∧ a < p) : s_X11_inverse m a (sh, I, J) = some (ivS p a, (sh, I, J)) := by
  have hb := hp.b
  unfold s_X11_inverse
  simp only [t_ck T, bsome, t_p T, hI]
  rw [t_power T hI hp ha (by omega) (by omega)]
  rfl
end TN
theorem ivS_ok {p a : Int} (hp : Pp p) (h0 : 0 < a) (h1 : a < p) : a * ivS p a % p = 1 := by
  have key : ∀ q : Nat, q < 20 → Pp q → ∀ n : Nat, n < q → 0 < n → ((n : Int) * ivS q n) % q = 1 := by
    intro q hq hP
    have hq4 : q = 11 ∨ q = 13 ∨ q = 17 ∨ q = 19 := by
      rcases hP with h | h | h | h <;> omega
    rcases hq4 with rfl | rfl | rfl | rfl <;> decide +kernel
  have hb := hp.b
  have h := key p.toNat (by omega) (by rw [Int.toNat_of_nonneg (by omega)]; exact hp) a.toNat (by omega) (by omega)
  rw [Int.toNat_of_nonneg (by omega), Int.toNat_of_nonneg (by omega)] at h
  exact h
