/-! the twin's rows -/
set_option maxRecDepth 100000
theorem t_of {sh : Sh} {I J : Nat → Int → Int} {m : Nat} (T : TL sh m) {r k : Int} (h0 : 0 ≤ 41 * r + k) (h1 : 41 * r + k < 1968) : s_X11_of m r k (sh, I, J) = some (I (m + 4) (41 * r + k), (sh, I, J)) := by
  unfold s_X11_of
  simp (disch := omega) only [bsome, t_ck T, t_gI T, t_pI T, t_gJ T, t_pJ T, tR_num T, tA_num T, tU_num T]
theorem t_put {sh : Sh} {I J : Nat → Int → Int} {m : Nat} (T : TL sh m) {r k v : Int} (h0 : 0 ≤ 41 * r + k) (h1 : 41 * r + k < 1968) : s_X11_put m r k v (sh, I, J) = some (sh, up1 I (m + 4) (upz (I (m + 4)) (41 * r + k) v), J) := by
  unfold s_X11_put
  simp (disch := omega) only [bsome, t_ck T, t_gI T, t_pI T, t_gJ T, t_pJ T, tR_num T, tA_num T, tU_num T]
/-- clears: a row of zeros -/
def zr (f : Int → Int) (a n : Int) : Int → Int := fun j => if a ≤ j ∧ j < a + n then 0 else f j
theorem zr_step (f : Int → Int) (a n : Int) (h : 0 ≤ n) : upz (zr f a n) (a + n) 0 = zr f a (n + 1) := by
  funext j
  unfold upz zr
  split <;> split <;> first | rfl | (split <;> first | rfl | omega) | omega
theorem t_clears {sh : Sh} {I J : Nat → Int → Int} {m : Nat} (T : TL sh m) {r d : Int} (h0 : 0 ≤ r) (h1 : r < 48) (h2 : -1 ≤ d) (h3 : d ≤ 40) :
    s_X11_clears m r d (sh, I, J) = some (sh, up1 (up1 I (m + 3) (upz (I (m + 3)) r d)) (m + 4) (zr (I (m + 4)) (41 * r) (d + 1)), J) := by
  unfold s_X11_clears
  simp (disch := omega) only [bsome, t_ck T, t_gI T, t_pI T, t_gJ T, t_pJ T, tR_deg T, tA_deg T, tU_deg T, tR_num T, tA_num T, tU_num T]
  unfold s_X11_clears_l9
  refine whileO_tr (d + 1).toNat (fun i => ((i : Int), (sh, up1 (up1 I (m + 3) (upz (I (m + 3)) r d)) (m + 4) (zr (I (m + 4)) (41 * r) i), J))) ?_ (fun i hi => ?_) ?_
  · congr 2
    rw [show zr (I (m + 4)) (41 * r) ((0 : Nat) : Int) = up1 I (m + 3) (upz (I (m + 3)) r d) (m + 4) from ?_, up1_id]
    rw [up1_n _ _ (by omega)]
    funext j
    exact if_neg (by omega)
  · unfold s_X11_clears_l9_st
    simp (disch := omega) only [w32_id, if_neg, bsome, t_ck T, t_gI T, t_pI T, t_gJ T, t_pJ T, tR_deg T, tA_deg T, tU_deg T, tR_num T, tA_num T, tU_num T, t_put T]
    simp only [up1_up1, up1_s, zr_step _ _ _ (Int.natCast_nonneg _), Int.natCast_add, Int.natCast_one]
  · unfold s_X11_clears_l9_st
    simp (disch := omega) only [w32_id, if_pos]
    congr 6
    rw [show ((d + 1).toNat : Int) = d + 1 by omega]
