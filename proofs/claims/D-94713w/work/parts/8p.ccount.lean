/-! the component: in how many ways -/
set_option maxRecDepth 100000
theorem wyS_step (d : Nat) (v : Int) : ∀ r : Nat, wyS (d + 1) v (r + 1) = wyS d v (r + 1) + (if ((d + 1 : Nat) : Int) ≤ v then wyS (d + 1) (v - ((d + 1 : Nat) : Int)) r else 0)
  | 0 => by
    show 0 + wyN d 0 v = 0 + wyN d 0 v + (if ((d + 1 : Nat) : Int) ≤ v then 0 else 0)
    rw [if_same, Int.add_zero]
  | r + 1 => by
    show wyS (d + 1) v (r + 1) + (wyN d (r + 1) v + (if ((d + 1 : Nat) : Int) ≤ v then wyN (d + 1) r (v - ((d + 1 : Nat) : Int)) else 0)) = wyS d v (r + 1) + wyN d (r + 1) v + (if ((d + 1 : Nat) : Int) ≤ v then wyS (d + 1) (v - ((d + 1 : Nat) : Int)) r + wyN (d + 1) r (v - ((d + 1 : Nat) : Int)) else 0)
    rw [wyS_step d v r]
    by_cases h : ((d + 1 : Nat) : Int) ≤ v
    · rw [if_pos h, if_pos h, if_pos h]
      omega
    · rw [if_neg h, if_neg h, if_neg h]
      omega
theorem wyN_0 : ∀ (d : Nat) (v : Int), wyN d 0 v = if v = 0 then 1 else 0
  | 0, v => by
    show (if (0 : Nat) = 0 ∧ v = 0 then 1 else 0) = _
    by_cases h : v = 0
    · rw [if_pos ⟨rfl, h⟩, if_pos h]
    · rw [if_neg (fun e => h e.2), if_neg h]
  | d + 1, v => wyN_0 d v
theorem wyS_0 (v : Int) : ∀ r : Nat, wyS 0 v (r + 1) = if v = 0 then 1 else 0
  | 0 => by
    show 0 + wyN 0 0 v = _
    rw [wyN_0, Int.zero_add]
  | r + 1 => by
    show wyS 0 v (r + 1) + (if r + 1 = 0 ∧ v = 0 then 1 else 0) = _
    rw [wyS_0 v r, if_neg (show ¬(r + 1 = 0 ∧ v = 0) by omega), Int.add_zero]
section CCn
variable {sh : Sh} {I J : Nat → Int → Int} {x : Nat} {p : Int} {W : Int → Int}
theorem x_su (hx : sh.2.1 x = 0) : ∀ (n : Nat) (w : Int) (r d : Nat), r + d < n → -1000 ≤ w → w ≤ 1000 → r ≤ 12 → d ≤ 8 → s_su n x w r d (sh, I, J) = some (wyP w r d, (sh, I, J))
  | 0, w, r, d, h, _, _, _, _ => by omega
  | n + 1, w, r, d, h, h0, h1, hr, hd => by
    show s_X1_sums (s_su n) x w r d (sh, I, J) = _
    unfold s_X1_sums wyP
    rw [w32_id (x := w) (by omega) (by omega), w32_id (x := (r : Int)) (by omega) (by omega), w32_id (x := (d : Int)) (by omega) (by omega)]
    by_cases c : w < 0
    · rw [if_neg (show ¬ 0 ≤ w by omega), if_pos c]
    rw [if_pos (by omega), if_neg c]
    by_cases c1 : r = 0
    · subst c1
      rw [if_pos (by omega)]
      show _ = some (0 + wyN d 0 w, _)
      rw [wyN_0, Int.zero_add]
      split <;> rfl
    rw [if_neg (by omega)]
    by_cases c2 : d = 0
    · subst c2
      rw [if_pos (by omega), wyS_0]
      split <;> rfl
    rw [if_neg (by omega)]
    obtain ⟨e, rfl⟩ : ∃ e, d = e + 1 := ⟨d - 1, by omega⟩
    obtain ⟨s, rfl⟩ : ∃ s, r = s + 1 := ⟨r - 1, by omega⟩
    have e1 := x_su hx n w (s + 1) e (by omega) h0 h1 hr (by omega)
    have e2 := x_su hx n (w - ((e + 1 : Nat) : Int)) s (e + 1) (by omega) (by omega) (by omega) (by omega) hd
    rw [ck_m hx, bsome, show ((e + 1 : Nat) : Int) - 1 = e by omega, e1, bsome]
    dsimp only
    rw [ck_m hx, bsome, show ((s + 1 : Nat) : Int) - 1 = s by omega, e2, bsome, wyS_step]
    dsimp only
    unfold wyP
    rw [if_neg c]
    by_cases c3 : ((e + 1 : Nat) : Int) ≤ w
    · rw [if_neg (show ¬ w - ((e + 1 : Nat) : Int) < 0 by omega), if_pos c3]
    · rw [if_pos (show w - ((e + 1 : Nat) : Int) < 0 by omega), if_neg c3]
theorem x1_in {y lo hi : Int} {μ : Me} (hy : i32 y) (hl : i32 lo) (hh : i32 hi) : s_X1_isIn (w32 y) lo hi μ = some (if lo ≤ y ∧ y ≤ hi then 1 else 0, μ) := by
  unfold i32 at hy hl hh
  rw [w32_id hy.1 hy.2, x1_isIn (by omega) (by omega) (by omega)]
theorem x_count (L : CL sh x) (R : Room sh) {r d k : Int} (hr : i32 r) (hd : i32 d) (hk : i32 k) :
    (((0 ≤ r ∧ r ≤ 12) ∧ (1 ≤ d ∧ d ≤ 8) ∧ (0 ≤ k ∧ k ≤ 96)) → CG (s_X1_count x r d k (sh, I, J)) sh I J x (cntP r d k)) ∧
    (¬((0 ≤ r ∧ r ≤ 12) ∧ (1 ≤ d ∧ d ≤ 8) ∧ (0 ≤ k ∧ k ≤ 96)) → CB (s_X1_count x r d k (sh, I, J)) sh I J 0) := by
  have z0 : w32 0 = 0 := rfl
  have z1 : ¬ w32 1 = 0 := by decide
  have e1 := x1_in (lo := 0) (hi := 12) (μ := (sh, I, J)) hr ⟨by omega, by omega⟩ ⟨by omega, by omega⟩
  have e2 := x1_in (lo := 1) (hi := 8) (μ := (sh, I, J)) hd ⟨by omega, by omega⟩ ⟨by omega, by omega⟩
  have e3 := x1_in (lo := 0) (hi := 96) (μ := (sh, I, J)) hk ⟨by omega, by omega⟩ ⟨by omega, by omega⟩
  unfold s_X1_count
  rw [e1, bsome]
  dsimp only
  refine ⟨fun h => CG.of ?_, fun h => ?_⟩
  · obtain ⟨h1, h2, h3⟩ := h
    have hdr : d * r ≤ 8 * 12 := Int.mul_le_mul h2.2 h1.2 h1.1 (by omega)
    have hdr0 : 0 ≤ d * r := Int.mul_nonneg (by omega) h1.1
    rw [if_pos h1, if_neg z1, e2, bsome]
    dsimp only
    rw [if_pos h2, if_neg z1, e3, bsome]
    dsimp only
    rw [if_pos h3, if_neg z1]
    unfold s_X1_count_b41 cntP
    rw [x1_must1, xb_r]
    obtain ⟨v, hv⟩ : ∃ v, d * r - k = v := ⟨_, rfl⟩
    rw [hv, w32_id (x := v) (by omega) (by omega)]
    by_cases h4 : v < 0
    · rw [if_pos h4, if_pos (Or.inl h4)]
    rw [if_neg h4, rmI_m (by omega) (by omega) (by omega) (by omega), bsome, Int.tmod_eq_emod_of_nonneg (by omega), w32_id (by omega) (by omega)]
    by_cases h5 : v % 2 = 0
    · rw [if_pos h5, if_neg (by omega)]
      have ed : dvI v 2 = some (v / 2) := by
        unfold dvI
        rw [w32_id (by omega) (by omega), w32_id (by omega) (by omega), if_neg (by omega), Int.tdiv_eq_ediv_of_nonneg (by omega)]
      have c1 := x_su (I := I) (J := J) L.t 30 (v / 2) r.toNat d.toNat (by omega) (by omega) (by omega) (by omega) (by omega)
      have c3 := x_su (I := I) (J := J) L.t 30 (v / 2 - 1) r.toNat d.toNat (by omega) (by omega) (by omega) (by omega) (by omega)
      rw [Int.toNat_of_nonneg h1.1, Int.toNat_of_nonneg (show 0 ≤ d by omega)] at c1 c3
      rw [ed, bsome, l_ck L, bsome, c1, bsome, bsome]
      dsimp only
      rw [l_ck L, bsome, c3, bsome]
    · rw [if_neg h5, if_pos (Or.inr h5)]
  · have fin : CB (s_X1_count_b41 x r d k 0 (sh, I, J)) sh I J 0 := by
      unfold CB s_X1_count_b41
      rw [x1_must0 R, xb_l]
    unfold s_X1_count_b40
    by_cases h1 : 0 ≤ r ∧ r ≤ 12
    · rw [if_pos h1, if_neg z1, e2, bsome]
      dsimp only
      by_cases h2 : 1 ≤ d ∧ d ≤ 8
      · rw [if_pos h2, if_neg z1, e3, bsome]
        dsimp only
        rw [if_neg (fun h3 => h ⟨h1, h2, h3⟩), if_pos z0]
        exact fin
      · rw [if_neg h2, if_pos z0]
        exact fin
    · rw [if_neg h1, if_pos z0]
      exact fin
end CCn
