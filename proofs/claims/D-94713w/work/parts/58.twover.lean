/-! the twin: rows differentiated, overlaps -/
set_option maxRecDepth 100000
section TO
variable {sh : Sh} {I J : Nat → Int → Int} {m : Nat} {p : Int}
theorem t_differentiates (T : TL sh m) (hI : I (m + 1) 0 = p) (hp : Pp p) {r to bx bz : Int} {n : Nat} {x : Int → Int} (hr : 0 ≤ r ∧ r < 48 ∧ r ≠ to) (hto : 0 ≤ to ∧ to < 48) (hn : n ≤ 40) (hbx : 0 ≤ bx) (hbz : 0 ≤ bz) (hb : bx + bz ≤ n) (hx : RW I m p r n x) :
    ∃ I', s_X11_differentiates m r bx bz to (sh, I, J) = some (sh, I', J) ∧ RW I' m p to (n - bx - bz) (difP n x bx bz) ∧ RF m (fun q => q = to) I I' := by
  unfold s_X11_differentiates
  obtain ⟨I1, c1, c2, c3⟩ := t_clearsR (I := I) (J := J) (p := p) T hto.1 hto.2 (d := n - bx - bz) (by omega) (by omega)
  simp (disch := omega) only [bsome, t_ck T, t_gI T, t_pI T, t_gJ T, t_pJ T, tR_deg T, tA_deg T, tU_deg T, hx.1, c1]
  unfold s_X11_differentiates_l19
  refine ex_g (fun I' => ((sh, I', J) : Me)) (whileO_for (n - bx - bz + 1).toNat
    (fun i s => ∃ I', s = (bz + (i : Int), ((sh, I', J) : Me)) ∧ I' (m + 3) to = n - bx - bz ∧ (∀ l : Int, 0 ≤ l → l < i → I' (m + 4) (41 * to + l) = difP n x bx bz l % p) ∧ RF m (fun q => q = to) I I')
    _ ?_ ?_ _ ?_)
  · rintro i s hi ⟨I3, rfl, a1, a2, a4⟩
    have hx3 := hx.keep a4 hr.2.2 hr.1 hr.2.1 (by omega)
    have b1 := hx3.2 (bz + i) (by omega) (by omega)
    obtain ⟨I4, e2, k1, k2, k3, k4⟩ := t_putR (I := I3) (J := J) T hto.1 hto.2 (k := bz + i - bz) (v := x (bz + i) * dfP n (bz + i) bx bz % p) (by omega) (by omega)
    refine ⟨(bz + (i : Int) + 1, (sh, I4, J)), ?_, I4, by simp [Int.add_assoc], by rw [k2]; exact a1, fun l g1 g2 => ?_, a4.trans k4⟩
    · unfold s_X11_differentiates_l19_st
      dsimp only
      simp (disch := omega) only [bsome, t_ck T, t_gI T, t_pI T, t_gJ T, t_pJ T, tR_deg T, tA_deg T, tU_deg T, hx3.1, w32_id, if_neg, t_of T, b1, t_differs T (a4.pw hI) hp, t_timesM T (a4.pw hI) hp, e2]
    · by_cases e : l = i
      · rw [e]
        rw [show bz + (i : Int) - bz = i by omega] at k1
        rw [k1]
        unfold difP
        rw [cl_in (by omega) (by omega), Int.add_comm]
      · rw [k3 _ (by omega)]
        exact a2 l g1 (by omega)
  · rintro s ⟨I3, rfl, a1, a2, a4⟩
    have hx3 := hx.keep a4 hr.2.2 hr.1 hr.2.1 (by omega)
    unfold s_X11_differentiates_l19_st
    dsimp only
    simp (disch := omega) only [bsome, t_ck T, t_gI T, t_pI T, t_gJ T, t_pJ T, tR_deg T, tA_deg T, tU_deg T, hx3.1, w32_id, if_pos]
    exact ⟨_, rfl, I3, rfl, ⟨a1, fun l g1 g2 => a2 l g1 (by omega)⟩, a4⟩
  · exact ⟨I1, by simp, c2.1, fun l g1 g2 => absurd g2 (by omega), c3⟩
theorem t_over {n k : Nat} (hn : n < 9) (hk : k ≤ n) {μ : Me} : s_X11_over n k μ = some (ovN n k, μ) := by
  unfold s_X11_over s_X11_over_l4
  refine whileO_tr k (fun i => (ovS n k i, 1 + (i : Int), μ)) rfl (fun i hi => ?_) ?_
  · obtain ⟨⟨h1, h2⟩, h3, h4⟩ := ovS_b (i := i) hn hk (by omega)
    unfold s_X11_over_l4_st dvI
    dsimp only
    rw [show (n : Int) - k + (1 + i) = n - k + (i + 1) by omega]
    rw [w32_id (x := (k : Int)) (by omega) (by omega), w32_id (x := 1 + (i : Int)) (by omega) (by omega), if_neg (by omega), w32_id (x := ovS n k i * _) (by omega) (by omega), if_neg (by omega), bsome, Int.add_comm 1 (i : Int)]
    simp [ovS, Int.add_comm]
  · unfold s_X11_over_l4_st
    dsimp only
    rw [w32_id (by omega) (by omega), w32_id (by omega) (by omega), if_pos (by omega)]
    simp [ovN]
theorem t_ov102 (T : TL sh m) (hI : I (m + 1) 0 = p) (hp : Pp p) {a b k to d x5 w : Int} {A B : Int → Int} (hto : 0 ≤ to ∧ to < 48 ∧ to ≠ 47) (hd : 0 ≤ d ∧ d ≤ 40) (hA : RW I m p to d A) (hB : RW I m p 47 d B) :
    ∃ I', s_X11_overlaps_l102 m a b k to x5 (w % p) 0 (sh, I, J) = some (.inl (x5 + 1, (sh, I', J))) ∧ RW I' m p to d (fun j => A j + w * B j) ∧ RF m (fun q => q = to) I I' := by
  unfold s_X11_overlaps_l102
  refine ex_g (fun I' => Sum.inl (x5 + 1, ((sh, I', J) : Me))) (whileO_for (d + 1).toNat
    (fun i s => ∃ I', s = ((i : Int), ((sh, I', J) : Me)) ∧ I' (m + 3) to = d ∧ (∀ k : Int, 0 ≤ k → k < i → I' (m + 4) (41 * to + k) = (A k + w * B k) % p) ∧ (∀ k : Int, i ≤ k → k ≤ d → I' (m + 4) (41 * to + k) = A k % p) ∧ RF m (fun q => q = to) I I')
    _ ?_ ?_ _ ?_)
  · rintro i s hi ⟨I3, rfl, a1, a2, a3, a4⟩
    have b1 := a3 i (by omega) (by omega)
    have b2 := (hB.keep a4 (by omega) (by omega) (by omega) hd.2).2 i (by omega) (by omega)
    obtain ⟨I4, e2, k1, k2, k3, k4⟩ := t_putR (I := I3) (J := J) T hto.1 hto.2.1 (k := i) (v := (A i + w * B i) % p) (by omega) (by omega)
    refine ⟨((i : Int) + 1, (sh, I4, J)), ?_, I4, by simp, by rw [k2]; exact a1, fun k x y => ?_, fun k x y => ?_, a4.trans k4⟩
    · unfold s_X11_overlaps_l102_st
      dsimp only
      simp (disch := omega) only [bsome, t_ck T, t_gI T, t_pI T, t_gJ T, t_pJ T, tR_deg T, tA_deg T, tU_deg T, a1, w32_id, if_neg, t_of T, b1, b2, t_timesM T (a4.pw hI) hp, t_plusM T (a4.pw hI) hp, e2]
    · by_cases e : k = i
      · rw [e, k1]
      · rw [k3 _ (by omega)]
        exact a2 k x (by omega)
    · rw [k3 _ (by omega)]
      exact a3 k (by omega) y
  · rintro s ⟨I3, rfl, a1, a2, a3, a4⟩
    unfold s_X11_overlaps_l102_st
    dsimp only
    simp (disch := omega) only [bsome, t_ck T, t_gI T, t_pI T, t_gJ T, t_pJ T, tR_deg T, tA_deg T, tU_deg T, a1, w32_id, if_pos]
    exact ⟨_, rfl, I3, rfl, ⟨a1, fun k x y => a2 k x (by omega)⟩, a4⟩
  · exact ⟨I, rfl, hA.1, fun k x y => absurd y (by omega), fun k x y => hA.2 k (by omega) y, RF.refl⟩
theorem t_overlaps (T : TL sh m) (hI : I (m + 1) 0 = p) (hp : Pp p) {r q to : Int} {n l k : Nat} {x y : Int → Int} (hr : 0 ≤ r ∧ r < 45 ∧ r ≠ to) (hq : 0 ≤ q ∧ q < 45 ∧ q ≠ to) (hto : 0 ≤ to ∧ to < 45) (hk : k < 9) (hkn : k ≤ n) (hkl : k ≤ l) (hn : n ≤ 40) (hl : l ≤ 40) (hd : n + l - 2 * k ≤ 40) (hx : RW I m p r n x) (hy : RW I m p q l y) :
    ∃ I', s_X11_overlaps m r q k to (sh, I, J) = some (sh, I', J) ∧ RW I' m p to (n + l - 2 * k) (ovP n l k x y) ∧ RF m (fun q => q = to ∨ q = 45 ∨ q = 46 ∨ q = 47) I I' := by
  unfold s_X11_overlaps
  obtain ⟨I1, c1, c2, c3⟩ := t_clearsR (I := I) (J := J) (p := p) T hto.1 (show to < 48 by omega) (d := n + l - 2 * k) (by omega) (by omega)
  simp (disch := omega) only [bsome, t_ck T, t_gI T, t_pI T, t_gJ T, t_pJ T, tR_deg T, tA_deg T, tU_deg T, hx.1, hy.1, c1]
  unfold s_X11_overlaps_l26
  refine ex_g (fun I' => ((sh, I', J) : Me)) (whileO_for (k + 1)
    (fun i s => ∃ I', s = ((i : Int), ((sh, I', J) : Me)) ∧ RW I' m p to (n + l - 2 * k) (fun j => sm i (fun i => sgI i * ovN k i * mulP (n - k) (difP n x (k - i) i) (difP l y i (k - i)) j)) ∧ RF m (fun q => q = to ∨ q = 45 ∨ q = 46 ∨ q = 47) I I')
    _ ?_ ?_ _ ?_)
  · rintro i s hi ⟨I3, rfl, a1, a2⟩
    have hx3 := hx.keep a2 (by omega) hr.1 (by omega) (by omega)
    have hy3 := hy.keep a2 (by omega) hq.1 (by omega) (by omega)
    obtain ⟨I4, d1, d2, d3⟩ := t_differentiates (J := J) (to := 45) (bx := k - i) (bz := i) T (a2.pw hI) hp (by omega) (by omega) hn (by omega) (by omega) (by omega) hx3
    have hy4 := hy3.keep d3 (by omega) hq.1 (by omega) (by omega)
    obtain ⟨I5, f1, f2, f3⟩ := t_differentiates (J := J) (to := 46) (bx := i) (bz := k - i) T (d3.pw (a2.pw hI)) hp (by omega) (by omega) hl (by omega) (by omega) (by omega) hy4
    have d5 := d2.keep f3 (by omega) (by omega) (by omega) (by omega)
    rw [show (n : Int) - (k - i) - i = ((n - k : Nat) : Int) by omega] at d5
    rw [show (l : Int) - i - (k - i) = ((l - k : Nat) : Int) by omega] at f2
    obtain ⟨I6, g1, g2, g3⟩ := t_multiplies (J := J) (r := 45) (q := 46) (to := 47) T (f3.pw (d3.pw (a2.pw hI))) hp (by omega) (by omega) (by omega) (by omega) d5 f2 (by
      unfold difP
      rw [show (l : Int) - i - (k - i) = ((l - k : Nat) : Int) by omega]
      exact Sup.cl _ _)
    have hI6 := g3.pw (f3.pw (d3.pw (a2.pw hI)))
    have a6 := ((a1.keep d3 (by omega) (by omega) (by omega) (by omega)).keep f3 (by omega) (by omega) (by omega) (by omega)).keep g3 (by omega) (by omega) (by omega) (by omega)
    rw [show ((n - k : Nat) : Int) + ((l - k : Nat) : Int) = n + l - 2 * k by omega] at g2
    have hF6 : RF m (fun q => q = to ∨ q = 45 ∨ q = 46 ∨ q = 47) I I6 := ((a2.trans (d3.mono (fun q h => by omega))).trans (f3.mono (fun q h => by omega))).trans (g3.mono (fun q h => by omega))
    obtain ⟨I7, h1, h2, h3⟩ := t_ov102 (J := J) (a := r) (b := q) (k := k) (x5 := i) (w := sgI i * ovN k i) T hI6 hp (by omega) (by omega) a6 g2
    refine ⟨((i : Int) + 1, (sh, I7, J)), ?_, I7, by simp, h2, hF6.trans (h3.mono (fun q h => by omega))⟩
    obtain ⟨⟨o1, o2⟩, -⟩ := ovS_b (n := k) (k := i) (i := i) hk (by omega) (Nat.le_refl _)
    have o3 : ovN (k : Int) i = ovS k i i := by simp [ovN]
    unfold s_X11_overlaps_l26_st
    dsimp only
    simp (disch := omega) only [t_ck T, bsome, w32_id, if_neg, d1, f1, g1, rmI_m, t_over hk (show i ≤ k by omega)]
    rw [Int.tmod_eq_emod_of_nonneg (by omega), w32_id (x := (i : Int) % 2) (by omega) (by omega)]
    unfold sgI at h1
    by_cases he : (i : Int) % 2 = 0
    · rw [if_pos he] at h1 ⊢
      rw [Int.one_mul] at h1
      rw [t_mod T hI6 hp (by omega) (by omega), bsome]
      exact h1
    · rw [if_neg he] at h1 ⊢
      rw [show -1 * ovN (k : Int) i = -ovN (k : Int) i by omega] at h1
      rw [t_mod T hI6 hp (by omega) (by omega), bsome]
      exact h1
  · rintro s ⟨I3, rfl, a1, a2⟩
    unfold s_X11_overlaps_l26_st
    dsimp only
    rw [w32_id (by omega) (by omega), w32_id (by omega) (by omega), if_pos (by omega)]
    refine ⟨_, rfl, I3, rfl, ?_, a2⟩
    unfold ovP
    rw [show ((n : Int) - k).toNat = n - k by omega]
    exact a1
  · exact ⟨I1, rfl, c2, c3.mono (fun q h => Or.inl h)⟩
end TO
