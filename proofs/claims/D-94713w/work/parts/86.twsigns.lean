/-! the twin: signs are read -/
set_option maxRecDepth 100000
/-- what an op leaves that may change the world: thrown c, the fault's place fa -/
def FS (m : Nat) (I I' : Nat → Int → Int) (c fa : Int) : Prop := (∀ a : Nat, a ≠ m → a ≠ m + 1 → (a < m + 3 ∨ m + 15 < a ∨ a = m + 5) → I' a = I a) ∧ I' m 0 = c ∧ I' m 3 = I m 3 ∧ I' m 11 = 0 ∧ I' m 17 = fa
theorem LSt_dr {W W' : Int → Int} {s : Int} (h0 : 0 ≤ s) (hW : ∀ i : Int, 0 ≤ i → i < 401 → W' (198 + 401 * s + i) = W (3606 + i)) : ∀ {i : Int} {a : List (Int × Int)}, 0 ≤ i → i + a.length ≤ 200 → DRt W i a → LSt W' s i a
  | _, [], _, _, _ => trivial
  | i, o :: a, h1, h2, h => by
    have hl : (((o :: a).length : Nat) : Int) = a.length + 1 := by simp
    rw [hl] at h2
    have e1 := hW (1 + 2 * i) (by omega) (by omega)
    have e2 := hW (2 + 2 * i) (by omega) (by omega)
    refine ⟨⟨?_, ?_⟩, LSt_dr h0 hW (by omega) (by omega) h.2⟩
    · rw [show 198 + 401 * s + 1 + 2 * i = 198 + 401 * s + (1 + 2 * i) by omega, e1, show 3606 + (1 + 2 * i) = 3607 + 2 * i by omega]
      exact h.1.1
    · rw [show 198 + 401 * s + 2 + 2 * i = 198 + 401 * s + (2 + 2 * i) by omega, e2, show 3606 + (2 + 2 * i) = 3608 + 2 * i by omega]
      exact h.1.2
theorem DRt_up {W W' : Int → Int} : ∀ {i : Int} {a : List (Int × Int)}, DRt W i a → (∀ j : Int, 3607 + 2 * i ≤ j → W' j = W j) → DRt W' i a
  | _, [], _, _ => trivial
  | i, o :: a, h, hj => ⟨⟨by rw [hj _ (by omega)]; exact h.1.1, by rw [hj _ (by omega)]; exact h.1.2⟩, DRt_up h.2 (fun j hj2 => hj j (by omega))⟩
section TSg
variable {sh : Sh} {I J : Nat → Int → Int} {m : Nat}
theorem RS.w19 {n : Int} {B : Int → Int} {a deep it st bg : Int} (h : RS I m n B a deep it st bg) (v : Int) : RS (up1 I m (upz (I m) 19 v)) m n B a deep it v bg := by
  obtain ⟨⟨h1, h2, h3⟩, ⟨h4, h5, h6⟩, h7⟩ := h
  unfold RS
  rw [up1_s, upz_s, upz_n _ _ (by decide), upz_n _ _ (by decide), upz_n _ _ (by decide), upz_n _ _ (by decide), upz_n _ _ (by decide), up1_n _ _ (by omega)]
  exact ⟨⟨h1, h2, h3⟩, ⟨h4, h5, rfl⟩, h7⟩
theorem t_signs (T : TL sh m) (hW : WI (I (m + 1))) (hn : 0 ≤ I m 11 ∧ I m 11 ≤ 400) (hB : okB (I (m + 5))) :
    (∀ pl, txR false (I (m + 5)) (I m 11) = .inl pl → ∃ r I', s_X11_signs m (sh, I, J) = some (r, (sh, I', J)) ∧ FS m I I' 1 pl ∧ ∀ j : Int, j < 3606 → I' (m + 1) j = I (m + 1) j) ∧
    (∀ t, txR false (I (m + 5)) (I m 11) = .inr t → I (m + 1) 3 = 8 → ∃ r I', s_X11_signs m (sh, I, J) = some (r, (sh, I', J)) ∧ FS m I I' 2 (-1) ∧ ∀ j : Int, j < 3606 → I' (m + 1) j = I (m + 1) j) ∧
    (∀ t, txR false (I (m + 5)) (I m 11) = .inr t → I (m + 1) 3 < 8 → ∃ I', s_X11_signs m (sh, I, J) = some (I (m + 1) 3, (sh, I', J)) ∧ FS m I I' 0 (-1) ∧ I' (m + 1) 3 = I (m + 1) 3 + 1 ∧ (∀ j : Int, j < 3606 → j ≠ 3 → (j < 198 + 401 * I (m + 1) 3 ∨ 198 + 401 * (I (m + 1) 3 + 1) ≤ j) → I' (m + 1) j = I (m + 1) j) ∧ SgW (I' (m + 1)) (I (m + 1) 3) t.1 t.2) := by
  have z1 : ¬ w32 1 = 0 := by decide
  have z0 : w32 0 = 0 := rfl
  have h3 := hW.c3
  obtain ⟨W, hw⟩ : ∃ W, I (m + 1) = W := ⟨_, rfl⟩
  obtain ⟨B, hb⟩ : ∃ B, I (m + 5) = B := ⟨_, rfl⟩
  obtain ⟨n, hnn⟩ : ∃ n, I m 11 = n := ⟨_, rfl⟩
  obtain ⟨I1, e1, k1, g13, g12⟩ := t_uses (J := J) T (Or.inr trivial) (I := I)
  rw [hw] at h3 ⊢
  rw [hb] at hB ⊢
  rw [hnn] at hn g13 ⊢
  have tq : ∀ a : Nat, a ≠ m → tpd (thr I m 0) m 0 a = I a := fun a h => by unfold tpd; rw [up1_n _ _ h, thr_n h]
  have hB1 : I1 (m + 5) = B := by rw [k1.1 (m + 5) (by omega) (by omega), tq _ (by omega), hb]
  have hw1 : I1 (m + 1) = W := by rw [k1.w, tq _ (by omega), hw]
  have k0 : I1 m 0 = 0 := by rw [k1.2 0 (by omega)]; unfold tpd; rw [up1_s, upz_n _ _ (by decide), thr_0]
  have k3 : I1 m 3 = I m 3 := by rw [k1.2 3 (by omega)]; unfold tpd; rw [up1_s, upz_n _ _ (by decide), thr_k (by decide)]
  have k11 : I1 m 11 = 0 := by rw [k1.2 11 (by omega)]; unfold tpd; rw [up1_s, upz_s]
  have r1 : RS I1 m n B 0 (I1 m 15) (I1 m 16) (I1 m 19) (I1 m 14) := ⟨⟨g12, g13, rfl⟩, ⟨rfl, rfl, rfl⟩, hB1⟩
  have r4 := ((r1.w15 0).w16 0).w19 0
  have f4 : FR m I1 _ 0 := ((FR.own (I := I1) (m := m) (k := 15) (v := 0) (st := 0) (by omega)).le2 (Int.le_refl _) (FR.own (k := 16) (v := 0) (by omega))).le2 (Int.le_refl _) (FR.own (k := 19) (v := 0) (by omega))
  have run : s_X11_signs m (sh, I, J) = (s_rd 40 0 m (sh, up1 (up1 (up1 I1 m (upz (I1 m) 15 0)) m (upz (up1 I1 m (upz (I1 m) 15 0) m) 16 0)) m (upz (up1 (up1 I1 m (upz (I1 m) 15 0)) m (upz (up1 I1 m (upz (I1 m) 15 0) m) 16 0) m) 19 0), J)).bind fun q6 =>
      (if w32 q6.1 = 0 then s_X11_signs_b49 m q6.1 q6.2
      else (ck q6.2 9 m).bind fun _ => (s_X11_blanks m q6.2).bind fun q35 => (gI q35 9 m 12).bind fun v37 => (gI q35 9 m 13).bind fun v38 =>
        (if w32 v37 = w32 v38 then s_X11_signs_b48 m 1 q35 else s_X11_signs_b48 m 0 q35)) := by
    unfold s_X11_signs
    rw [t_ck T, bsome, e1, bsome, t_pI T, bsome, t_pI T, bsome, t_pI T, bsome, t_ck T, bsome]
  obtain ⟨I4, hI4⟩ : ∃ I4, up1 (up1 (up1 I1 m (upz (I1 m) 15 0)) m (upz (up1 I1 m (upz (I1 m) 15 0) m) 16 0)) m (upz (up1 (up1 I1 m (upz (I1 m) 15 0)) m (upz (up1 I1 m (upz (I1 m) 15 0) m) 16 0) m) 19 0) = I4 := ⟨_, rfl⟩
  rw [hI4] at r4 f4 run
  -- what's left after a step
  have fin : ∀ {I5 : Nat → Int → Int} {st : Int}, FR m I4 I5 0 → ∀ c fa : Int, FS m I (thr (up1 I5 m (upz (I5 m) 17 fa)) m c) c fa := by
    intro I5 st f5 c fa
    have f := f4.le2 (Int.le_refl _) f5
    refine ⟨fun a x y z => ?_, thr_0, ?_, ?_, ?_⟩
    · rw [thr_n x, up1_n _ _ x, f.1 a x y, k1.1 a x z, tq a x]
    · rw [thr_k (by decide), up1_s, upz_n _ _ (by decide), f.2.1 3 (by decide), k3]
    · rw [thr_k (by decide), up1_s, upz_n _ _ (by decide), f.2.1 11 (by decide), k11]
    · rw [thr_k (by decide), up1_s, upz_s]
  have fW : ∀ {I5 : Nat → Int → Int}, FR m I4 I5 0 → ∀ c fa j : Int, j < 3607 → thr (up1 I5 m (upz (I5 m) 17 fa)) m c (m + 1) j = W j := by
    intro I5 f5 c fa j hj
    rw [thr_n (by omega), up1_n _ _ (by omega), (f4.le2 (Int.le_refl _) f5).2.2 j (by omega), hw1]
  -- a fault
  have bad : ∀ {I5 : Nat → Int → Int}, s_X11_signs_b49 m 0 (sh, I5, J) = some (0, (sh, thr (up1 I5 m (upz (I5 m) 17 (I5 m 14))) m 1, J)) := by
    intro I5
    unfold s_X11_signs_b49
    rw [if_pos z0, t_gI T, bsome]
    unfold s_X11_signs_b62
    rw [t_pI T, bsome, if_pos z0]
    unfold s_X11_signs_b75
    rw [t_ck T, bsome, t_if1 T, bsome]
    dsimp only
    rw [if_neg z1]
  obtain ⟨y1, y2⟩ := t_rdall (J := J) T hn.2 hB 40 0 I4 0 0 0 0 _ r4 (Int.le_refl _) hn.1 (by omega) (by omega) (by omega) (Or.inl ⟨rfl, by omega⟩) (fun h => absurd h (by decide))
  have ok := prR_ok (hard := false) (B := B) hn.2 40 0 0 0 0 (Int.le_refl _) hn.1 (by omega) (by omega)
  rw [run]
  unfold txR
  cases hq : prR false B n 40 0 0 0 0 with
  | inl pl =>
    obtain ⟨I5, e5, b5, f5⟩ := y2 pl hq
    refine ⟨fun pl' hr => ?_, fun t hr => (by cases hr), fun t hr => (by cases hr)⟩
    rw [← Sum.inl.inj (show (Sum.inl pl : Int ⊕ TT) = .inl pl' from hr)]
    refine ⟨0, thr (up1 I5 m (upz (I5 m) 17 pl)) m 1, ?_, fin (st := 0) f5 _ _, fun j hj => fW f5 _ _ j (by omega)⟩
    rw [e5, bsome]
    dsimp only
    rw [if_pos z0, bad, b5]
  | inr q =>
    obtain ⟨I5, bg5, e5, r5, D5, f5⟩ := y1 q hq
    obtain ⟨q1, ⟨q2, q3⟩, q4, q5, q6⟩ := ok q hq
    have hst := okT_st (st := 0) (ok q hq) (Int.le_refl _) (by omega)
    have lq := lvs_pos q.1
    have s := skS_b (B := B) (n := n) (a := q.2.1) q2 q3 hn.2
    obtain ⟨I6, e6, r6, f6⟩ := t_blk (J := J) T hn.2 hB r5 (by omega) q3
    have f56 : FR m I4 I6 0 := f5.le2 (Int.le_refl _) (f6.le (by omega))
    have D6 := DRt_eq D5 (fun j hj => f6.2.2 j (by omega))
    have run2 : (s_rd 40 0 m (sh, I4, J)).bind (fun q6 =>
      (if w32 q6.1 = 0 then s_X11_signs_b49 m q6.1 q6.2
      else (ck q6.2 9 m).bind fun _ => (s_X11_blanks m q6.2).bind fun q35 => (gI q35 9 m 12).bind fun v37 => (gI q35 9 m 13).bind fun v38 =>
        (if w32 v37 = w32 v38 then s_X11_signs_b48 m 1 q35 else s_X11_signs_b48 m 0 q35))) = if skS B n q.2.1 = n then s_X11_signs_b49 m 1 (sh, I6, J) else s_X11_signs_b49 m 0 (sh, I6, J) := by
      rw [e5, bsome]
      dsimp only
      rw [if_neg z1, t_ck T, bsome, e6, bsome, t_gI T, bsome, t_gI T, bsome, r6.1.1, r6.1.2.1, w32_id (x := skS B n q.2.1) (by omega) (by omega), w32_id (x := n) (by omega) (by omega)]
      rfl
    rw [run2]
    show (∀ pl, (if skS B n q.2.1 = n then (.inr q.1 : Int ⊕ TT) else .inl (skS B n q.2.1)) = .inl pl → _) ∧ (∀ t, (if skS B n q.2.1 = n then (.inr q.1 : Int ⊕ TT) else .inl (skS B n q.2.1)) = .inr t → _) ∧ (∀ t, (if skS B n q.2.1 = n then (.inr q.1 : Int ⊕ TT) else .inl (skS B n q.2.1)) = .inr t → _)
    by_cases hc : skS B n q.2.1 = n
    · rw [if_pos hc, if_pos hc]
      obtain ⟨I7, hI7⟩ : ∃ I7, up1 I6 m (upz (I6 m) 17 (-1)) = I7 := ⟨_, rfl⟩
      have hw7 : ∀ j : Int, j < 3607 → I7 (m + 1) j = W j := by
        intro j hj
        rw [← hI7, up1_n _ _ (by omega), (f4.le2 (Int.le_refl _) f56).2.2 j (by omega), hw1]
      have h73 : I7 (m + 1) 3 = W 3 := hw7 3 (by omega)
      have h719 : I7 m 19 = (pst q.1).length := by
        rw [← hI7, up1_s, upz_n _ _ (by decide), r6.2.1.2.2]
        omega
      have e7 : s_X11_signs_b49 m 1 (sh, I6, J) = if W 3 = 8 then s_X11_signs_b99 m 1 m (sh, I7, J) else s_X11_signs_b99 m 0 m (sh, I7, J) := by
        unfold s_X11_signs_b49
        rw [if_neg z1]
        unfold s_X11_signs_b62
        rw [t_pI T, bsome, if_neg z1, hI7]
        unfold s_X11_signs_b75
        rw [t_ck T, bsome, t_if0, bsome]
        dsimp only
        simp (disch := omega) only [bsome, t_ck T, t_gI T, t_pI T, t_gJ T, t_pJ T, tR_world T, tA_world T, tU_world T, h73, z0, if_pos, ifT]
        rw [w32_id (x := W 3) (by omega) (by omega), show w32 8 = 8 from rfl]
      rw [e7]
      refine ⟨fun pl hr => (by cases hr), fun t hr h8 => ?_, fun t hr h8 => ?_⟩
      · rw [if_pos h8]
        unfold s_X11_signs_b99
        rw [t_ck T, bsome, t_if1 T, bsome]
        dsimp only
        rw [if_neg z1, ← hI7]
        exact ⟨_, _, rfl, fin (st := 0) f56 _ _, fun j hj => fW f56 _ _ j (by omega)⟩
      · rw [if_neg (show ¬ W 3 = 8 by omega)]
        unfold s_X11_signs_b99
        rw [t_ck T, bsome, t_if0, bsome]
        dsimp only
        simp (disch := omega) only [bsome, t_ck T, t_gI T, t_pI T, t_gJ T, t_pJ T, tR_world T, tA_world T, tU_world T, h73, h719, z0, if_pos, ifT]
        obtain ⟨I8, hI8⟩ : ∃ I8, up1 I7 (m + 1) (upz (I7 (m + 1)) 3606 ((pst q.1).length : Int)) = I8 := ⟨_, rfl⟩
        rw [hI8]
        have hw8 : I8 (m + 1) = upz (I7 (m + 1)) 3606 ((pst q.1).length : Int) := by rw [← hI8, up1_s]
        unfold s_X11_signs_l129
        have hl := arr_loop (f := fun s : Int × Me => s_X11_signs_l129_st m (W 3) s.1 s.2) (sh := sh) (I := I8) (J := J) (m + 1) (198 + 401 * W 3) 0 401 (fun i => I8 (m + 1) (3606 + i))
          (r := (W 3, (sh, up1 I8 (m + 1) (upz (wr (I8 (m + 1)) (198 + 401 * W 3) 401 (fun i => I8 (m + 1) (3606 + i))) 3 (W 3 + 1)), J))) ?_ ?_
        · rw [hl]
          rw [← Sum.inr.inj hr]
          obtain ⟨W', hW'⟩ : ∃ W', upz (wr (I8 (m + 1)) (198 + 401 * W 3) 401 (fun i => I8 (m + 1) (3606 + i))) 3 (W 3 + 1) = W' := ⟨_, rfl⟩
          have c0 : ∀ i : Int, 0 ≤ i → i < 401 → W' (198 + 401 * W 3 + i) = I8 (m + 1) (3606 + i) := by
            intro i i0 i1
            rw [← hW', upz_n _ _ (by omega), wr_in (by omega) (by omega), show 198 + 401 * W 3 + i - (198 + 401 * W 3) = i by omega, Int.toNat_of_nonneg i0]
          have D8 : DRt (I8 (m + 1)) 0 (pst q.1) := by
            refine DRt_up D6 (fun j hj => ?_)
            rw [hw8, upz_n _ _ (by omega), ← hI7, up1_n _ _ (by omega)]
          rw [hW']
          have hf := fin (st := 0) f56 0 (-1)
          rw [hI7] at hf
          refine ⟨_, rfl, ⟨fun a x y z => ?_, ?_, ?_, ?_, ?_⟩, ?_, fun j h1 h2 h4 => ?_, ?_, (show (pst q.1).length ≤ 199 by omega), ?_, q1, (show lvs q.1 ≤ 20 by omega)⟩
          · rw [up1_n _ _ y, ← hI8, up1_n _ _ y, ← hf.1 a x y z, thr_n x]
          · rw [up1_n _ _ (by omega), ← hI8, up1_n _ _ (by omega), ← hI7, up1_s, upz_n _ _ (by decide), (f4.le2 (Int.le_refl _) f56).2.1 0 (by decide), k0]
          · rw [up1_n _ _ (by omega), ← hI8, up1_n _ _ (by omega), ← hf.2.2.1, thr_k (by decide)]
          · rw [up1_n _ _ (by omega), ← hI8, up1_n _ _ (by omega), ← hf.2.2.2.1, thr_k (by decide)]
          · rw [up1_n _ _ (by omega), ← hI8, up1_n _ _ (by omega), ← hf.2.2.2.2, thr_k (by decide)]
          · rw [up1_s, ← hW', upz_s]
          · rw [up1_s, ← hW', upz_n _ _ h2, wr_out (by omega), hw8, upz_n _ _ (by omega), hw7 j (by omega)]
          · rw [up1_s]
            have := c0 0 (by omega) (by omega)
            rw [show 198 + 401 * W 3 + 0 = 198 + 401 * W 3 by omega, hw8, show (3606 : Int) + 0 = 3606 by omega, upz_s] at this
            exact this
          · rw [up1_s]
            exact LSt_dr h3.1 c0 (Int.le_refl _) (show 0 + ((pst q.1).length : Int) ≤ 200 by omega) D8
        · intro i hi
          have o1 : up1 I8 (m + 1) (wr (I8 (m + 1)) (198 + 401 * W 3) i (fun i => I8 (m + 1) (3606 + i))) (m + 1) (3606 + (i : Int)) = I8 (m + 1) (3606 + i) := by rw [up1_s, wr_out (by omega)]
          unfold s_X11_signs_l129_st
          dsimp only
          rw [Int.zero_add]
          simp (disch := omega) only [bsome, t_ck T, t_gI T, t_pI T, t_gJ T, t_pJ T, tR_world T, tA_world T, tU_world T, w32_id, if_neg, o1, up1_s, up1_up1, ifT]
        · unfold s_X11_signs_l129_st s_X11_signs_b168
          dsimp only
          have o3 : wr (I8 (m + 1)) (198 + 401 * W 3) 401 (fun i => I8 (m + 1) (3606 + i)) 3 = W 3 := by rw [wr_out (by omega), hw8, upz_n _ _ (by omega), hw7 3 (by omega)]
          simp (disch := omega) only [bsome, t_ck T, t_gI T, t_pI T, t_gJ T, t_pJ T, tR_world T, tA_world T, tU_world T, w32_id, if_pos, o3, up1_s, up1_up1, ifT]
          rfl
    · rw [if_neg hc, if_neg hc, bad, r6.1.2.2]
      refine ⟨fun pl hr => ?_, fun t hr => (by cases hr), fun t hr => (by cases hr)⟩
      rw [← Sum.inl.inj hr]
      exact ⟨_, _, rfl, fin (st := 0) f56 _ _, fun j hj => fW f56 _ _ j (by omega)⟩
end TSg
