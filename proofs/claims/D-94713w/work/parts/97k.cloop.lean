/-! the law's loop -/
set_option maxRecDepth 100000
section CLp
variable {sh : Sh} {I J : Nat → Int → Int} {x c b n : Nat} {xs : Nat → Int32} {i : Int}
theorem law_st (V : IV sh I x (c + 1)) (h0 : 0 ≤ i) (h1 : i + 6 ≤ n) (h2 : n ≤ 384) : NXT (s_L_law_l23_st b n xs b x (x + 678) (x + 694) i (sh, I, J)) x c i := by
  obtain ⟨v, g, iv⟩ := gX_m (b := b) (n := n) (xs := xs) (j := i) h0 (by omega) h2
  unfold s_L_law_l23_st
  have e : lX b n b = some (n : Int) := if_pos rfl
  rw [e, bsome, w32_id (x := (n : Int) - 6) (by omega) (by omega), w32_id (x := i) (by omega) (by omega), if_neg (by omega), g, bsome]
  obtain ⟨k, hk⟩ : ∃ k, w32 (anI v 63) = k := ⟨_, rfl⟩
  rw [hk]
  by_cases e0 : k = 0
  · rw [if_pos e0]; exact bl_224 V h0 h1 h2
  rw [if_neg e0]
  by_cases e1 : k = 1
  · rw [if_pos e1]; exact bl_297 V h0 h1 h2
  rw [if_neg e1]
  by_cases e2 : k = 2
  · rw [if_pos e2]; exact bl_322 V h0 h1 h2
  rw [if_neg e2]
  by_cases e3 : k = 3
  · rw [if_pos e3]; exact bl_358 V h0 h1 h2
  rw [if_neg e3]
  by_cases e4 : k = 4
  · rw [if_pos e4]; exact bl_402 V h0 h1 h2
  rw [if_neg e4]
  by_cases e5 : k = 5
  · rw [if_pos e5]; exact bl_494 V h0 h1 h2
  rw [if_neg e5]
  by_cases e6 : k = 6
  · rw [if_pos e6]; exact bl_538 V h0 h1 h2
  rw [if_neg e6]
  by_cases e7 : k = 7
  · rw [if_pos e7]; exact bl_551 V h0 h1 h2
  rw [if_neg e7]
  by_cases e8 : k = 8
  · rw [if_pos e8]; exact bl_619 V h0 h1 h2
  rw [if_neg e8]
  by_cases e9 : k = 9
  · rw [if_pos e9]; exact bl_699 V h0 h1 h2
  rw [if_neg e9]
  by_cases e10 : k = 10
  · rw [if_pos e10]; exact bl_755 V h0 h1 h2
  rw [if_neg e10]
  by_cases e11 : k = 11
  · rw [if_pos e11]; exact bl_830 V h0 h1 h2
  rw [if_neg e11]
  by_cases e12 : k = 12
  · rw [if_pos e12]; exact bl_843 V h0 h1 h2
  rw [if_neg e12]
  by_cases e13 : k = 13
  · rw [if_pos e13]; exact bl_856 V h0 h1 h2
  rw [if_neg e13]
  by_cases e14 : k = 14
  · rw [if_pos e14]; exact bl_936 V h0 h1 h2
  rw [if_neg e14]
  by_cases e15 : k = 15
  · rw [if_pos e15]; exact bl_1020 V h0 h1 h2
  rw [if_neg e15]
  by_cases e16 : k = 16
  · rw [if_pos e16]; exact bl_1107 V h0 h1 h2
  rw [if_neg e16]
  by_cases e17 : k = 17
  · rw [if_pos e17]; exact bl_1187 V h0 h1 h2
  rw [if_neg e17]
  by_cases e18 : k = 18
  · rw [if_pos e18]; exact bl_1266 V h0 h1 h2
  rw [if_neg e18]
  by_cases e19 : k = 19
  · rw [if_pos e19]; exact bl_1346 V h0 h1 h2
  rw [if_neg e19]
  by_cases e20 : k = 20
  · rw [if_pos e20]; exact bl_1426 V h0 h1 h2
  rw [if_neg e20]
  by_cases e21 : k = 21
  · rw [if_pos e21]; exact bl_1482 V h0 h1 h2
  rw [if_neg e21]
  by_cases e22 : k = 22
  · rw [if_pos e22]; exact bl_1538 V h0 h1 h2
  rw [if_neg e22]
  by_cases e23 : k = 23
  · rw [if_pos e23]; exact bl_1606 V h0 h1 h2
  rw [if_neg e23]
  by_cases e24 : k = 24
  · rw [if_pos e24]; exact bl_1662 V h0 h1 h2
  rw [if_neg e24]
  by_cases e25 : k = 25
  · rw [if_pos e25]; exact bl_1730 V h0 h1 h2
  rw [if_neg e25]
  by_cases e26 : k = 26
  · rw [if_pos e26]; exact bl_1810 V h0 h1 h2
  rw [if_neg e26]
  by_cases e27 : k = 27
  · rw [if_pos e27]; exact bl_1873 V h0 h1 h2
  rw [if_neg e27]
  by_cases e28 : k = 28
  · rw [if_pos e28]; exact bl_1941 V h0 h1 h2
  rw [if_neg e28]
  by_cases e29 : k = 29
  · rw [if_pos e29]; exact bl_1997 V h0 h1 h2
  rw [if_neg e29]
  by_cases e30 : k = 30
  · rw [if_pos e30]; exact bl_2060 V h0 h1 h2
  rw [if_neg e30]
  by_cases e31 : k = 31
  · rw [if_pos e31]; exact bl_2128 V h0 h1 h2
  rw [if_neg e31]
  by_cases e32 : k = 32
  · rw [if_pos e32]; exact bl_2184 V h0 h1 h2
  rw [if_neg e32]
  by_cases e33 : k = 33
  · rw [if_pos e33]; exact bl_2252 V h0 h1 h2
  rw [if_neg e33]
  by_cases e34 : k = 34
  · rw [if_pos e34]; exact bl_2332 V h0 h1 h2
  rw [if_neg e34]
  by_cases e35 : k = 35
  · rw [if_pos e35]; exact bl_2424 V h0 h1 h2
  rw [if_neg e35]
  by_cases e36 : k = 36
  · rw [if_pos e36]; exact bl_2515 V h0 h1 h2
  rw [if_neg e36]
  by_cases e37 : k = 37
  · rw [if_pos e37]; exact bl_2599 V h0 h1 h2
  rw [if_neg e37]
  by_cases e38 : k = 38
  · rw [if_pos e38]; exact bl_2679 V h0 h1 h2
  rw [if_neg e38]
  by_cases e39 : k = 39
  · rw [if_pos e39]; exact bl_2783 V h0 h1 h2
  rw [if_neg e39]
  by_cases e40 : k = 40
  · rw [if_pos e40]; exact bl_2794 V h0 h1 h2
  rw [if_neg e40]
  by_cases e41 : k = 41
  · rw [if_pos e41]; exact bl_2807 V h0 h1 h2
  rw [if_neg e41]
  exact ⟨sh, I, J, rfl, V.1, V.2.1, V.2.2.1, V.rm⟩
theorem law_loop (h2 : n ≤ 384) : ∀ (c : Nat) (i : Int) (sh : Sh) (I J : Nat → Int → Int), IV sh I x c → 0 ≤ i → i ≤ 390 → (n : Int) ≤ i + 6 * c + 5 → ∃ w : Int × Me, s_L_law_l23 b n xs b x (x + 678) (x + 694) i (sh, I, J) = some w ∧ w.1 = 1 := by
  intro c
  induction c with
  | zero =>
    intro i sh I J V h0 h9 h1
    refine ⟨(1, (sh, I, J)), ?_, rfl⟩
    unfold s_L_law_l23
    rw [whileO_eq]
    dsimp only
    unfold s_L_law_l23_st
    have e : lX b n b = some (n : Int) := if_pos rfl
    rw [e, bsome, w32_id (x := (n : Int) - 6) (by omega) (by omega), w32_id (x := i) (by omega) (by omega), if_pos (by omega)]
    rfl
  | succ c ih =>
    intro i sh I J V h0 h9 h1
    by_cases hh : i + 6 ≤ n
    · obtain ⟨sh', I', J', e, V'⟩ := law_st (b := b) (xs := xs) (J := J) V h0 hh h2
      obtain ⟨w, e2, e3⟩ := ih (i + 6) sh' I' J' V' (by omega) (by omega) (by omega)
      refine ⟨w, ?_, e3⟩
      rw [← e2]
      show s_L_law_l23 b n xs b x (x + 678) (x + 694) i (sh, I, J) = _
      unfold s_L_law_l23
      rw [whileO_eq]
      dsimp only
      rw [e]
      rfl
    · refine ⟨(1, (sh, I, J)), ?_, rfl⟩
      unfold s_L_law_l23
      rw [whileO_eq]
      dsimp only
      unfold s_L_law_l23_st
      have e : lX b n b = some (n : Int) := if_pos rfl
      rw [e, bsome, w32_id (x := (n : Int) - 6) (by omega) (by omega), w32_id (x := i) (by omega) (by omega), if_pos (by omega)]
      rfl
end CLp
