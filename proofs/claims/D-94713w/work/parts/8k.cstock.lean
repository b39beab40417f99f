/-! the component: stock, fault -/
set_option maxRecDepth 100000
section CV1
variable {sh : Sh} {I J : Nat → Int → Int} {x : Nat} {p : Int} {W : Int → Int}
theorem x_fault (L : CL sh x) : s_X1_fault x (sh, I, J) = some (I x 16, (sh, I, J)) := by
  unfold s_X1_fault
  rw [l_gI L, bsome]
theorem x_stock (L : CL sh x) (hS : SR sh I (x + 16) W) (hW : WI W) {k : Int} (hk : i32 k) : s_X1_stock x k (sh, I, J) = some (stkP W k, (sh, I, J)) := by
  have hc1 := hW.c1
  have T := L.st
  obtain ⟨⟨c4, c5, c6, c7⟩, c9, c8⟩ := hS.1
  unfold i32 at hk
  unfold s_X1_stock stkP
  rw [w32_id hk.1 hk.2]
  by_cases h0 : k = 0
  · rw [if_pos h0, if_pos h0, l_st L, bsome, s_gI T, bsome, c4]
  rw [if_neg h0, if_neg h0]
  by_cases h1 : k = 1
  · rw [if_pos h1, if_pos h1, l_st L, bsome, s_gI T, bsome, c5]
  rw [if_neg h1, if_neg h1]
  by_cases h2 : k = 2
  · rw [if_pos h2, if_pos h2, l_st L, bsome, s_gI T, bsome, c6]
  rw [if_neg h2, if_neg h2]
  by_cases h3 : k = 3
  · rw [if_pos h3, if_pos h3, l_st L, bsome, s_gI T, bsome, c7]
  rw [if_neg h3, if_neg h3]
  by_cases h4 : k = 4
  · rw [if_pos h4, if_pos h4, l_st L, bsome, s_gI T, bsome, c9]
  rw [if_neg h4, if_neg h4]
  by_cases h5 : k = 5
  · rw [if_pos h5, if_pos h5, l_st L, bsome, s_gI T, bsome, bsome, s_gI T, bsome, c8, c9, show W 4 + W 5 - W 4 = W 5 by omega]
  rw [if_neg h5, if_neg h5]
  by_cases h6 : k = 6
  · rw [if_pos h6, if_pos h6]
    unfold s_X1_stock_l102
    refine whileO_tr (W 1).toNat (fun i => (nzM W i, (i : Int), (sh, I, J))) rfl (fun i hi => ?_) ?_
    · obtain ⟨g1, g2⟩ := hS.ff hW (k := (i : Int)) (by omega) (by omega)
      have Q := L.q (k := (i : Int)) (by omega)
      rw [Int.toNat_natCast] at g1 Q
      have e1 := x8_isNought (J := J) Q hW.pp (by omega) g1
      unfold s_X1_stock_l102_st
      dsimp only
      rw [l_st L, bsome, s_gI T, bsome, c5, w32_id (x := W 1) (by omega) (by omega), w32_id (x := (i : Int)) (by omega) (by omega), if_neg (by omega), bsome, s_fo T, bsome, s_form T (by omega), bsome, f_ck Q, bsome, e1, bsome]
      dsimp only
      rw [show (((fF W i).1 : Int) + 1).toNat = (fD W i + 1).toNat by rw [(fF_1 (hW.f (by omega) (by omega))).1]]
      show _ = some (Sum.inl (nzM W i + nzI (W 0) (fC W i) (fD W i + 1).toNat, ((i + 1 : Nat) : Int), ((sh, I, J) : Me)))
      have hb := (nzI_iff (W 0) (fC W i) (fD W i + 1).toNat).1
      rw [show (fF W i).2 = fC W i from rfl]
      rcases hb with h | h
      · rw [h, if_pos (show w32 0 = 0 from rfl)]
        rfl
      · rw [h, if_neg (show ¬ w32 1 = 0 by decide)]
        rfl
    · unfold s_X1_stock_l102_st
      dsimp only
      rw [l_st L, bsome, s_gI T, bsome, c5, w32_id (x := W 1) (by omega) (by omega), w32_id (by omega) (by omega), if_pos (by omega)]
  rw [if_neg h6, if_neg h6]
end CV1
