/-! the component: zeros ahead are left out -/
set_option maxRecDepth 100000
section CW
variable {sh : Sh} {I J : Nat → Int → Int} {x : Nat} {p : Int} {W : Int → Int}
theorem stN_ne {p : Int} {F : Fo} (h : ¬ nz p F.1 F.2) : F.2 (stN p F) % p ≠ 0 := by
  have := stF_lead h
  unfold stF at this
  dsimp only at this
  rw [Int.zero_add] at this
  exact this
theorem x1_bares (hp : Pp p) {q1 q2 : Nat} {F : Fo} (hF : F.1 ≤ 40) (Q1 : FA sh q1) (Q2 : FA sh q2) (hne : q1 ≠ q2) (hn : ¬ nz p F.1 F.2) (hc : FM I q1 p F.1 F.2) :
    ∃ I', s_X1_bares x q1 q2 (sh, I, J) = some ((stN p F : Int), (sh, I', J)) ∧ FM I' q2 p (stF p F).1 (stF p F).2 ∧ AF (aF q2) I I' := by
  have ap := Q1.ap Q2 hne
  unfold AP at ap
  have hle := stN_le p F
  have hl := stN_ne hn
  obtain ⟨z1, -⟩ := ldZ_spec p F.2 F.1 0
  have hb := hp.b
  obtain ⟨N, hN⟩ : ∃ N, stN p F = N := ⟨_, rfl⟩
  have z1 : ∀ k : Nat, k < N → F.2 k % p = 0 := fun k hk => z1 k (Nat.zero_le _) (by rw [← hN] at hk; exact hk)
  have e9 : stF p F = (F.1 - N, fun k => F.2 (k + N)) := by rw [← hN]; rfl
  rw [hN] at hle hl ⊢
  rw [e9]
  dsimp only
  obtain ⟨I1, c1, c2, c4, c3⟩ := x8_nought (I := I) (J := J) Q2 p (d := (F.1 : Int) - N) (by omega)
  have fin : ∃ I', s_X1_bares_b17 q1 q2 N (sh, I, J) = some ((N : Int), (sh, I', J)) ∧ FM I' q2 p ((F.1 - N : Nat) : Int) (fun k => F.2 (k + N)) ∧ AF (aF q2) I I' := by
    unfold s_X1_bares_b17
    rw [f_gI Q1, bsome, hc.1, f_ck Q2, bsome, c1, bsome]
    unfold s_X1_bares_l30
    refine ex_g (fun I' => (((N : Int), (sh, I', J)) : Int × Me)) (whileO_for (F.1 - N + 1)
      (fun j s => ∃ I', s = ((j : Int), ((sh, I', J) : Me)) ∧ I' q2 1 = (F.1 : Int) - N ∧ (∀ k : Int, 0 ≤ k → k < j → I' (q2 + 1) k = F.2 (k + N) % p) ∧ AF (aF q2) I I') _ ?_ ?_ _ ?_)
    · rintro j s hj ⟨I3, rfl, a1, a2, a4⟩
      have b1 := (hc.keep a4 (by omega) (by omega)).2 ((N : Int) + j) (by omega) (by omega)
      obtain ⟨I4, e2, k1, k2, k3, k4⟩ := f_put (I := I3) (J := J) Q2 (k := j) (v := F.2 ((N : Int) + j) % p) (by omega) (by omega)
      refine ⟨((j : Int) + 1, (sh, I4, J)), ?_, I4, by simp, by rw [k2]; exact a1, fun l y z => ?_, a4.trans k4⟩
      · unfold s_X1_bares_l30_st
        dsimp only
        simp (disch := omega) only [bsome, f_gI Q2, f_gR Q2, f_gR Q1, f_aI Q1, a1, w32_id (x := (F.1 : Int) - N), w32_id (x := (j : Int)), if_neg, b1, e2, ifT]
      · by_cases e : l = j
        · rw [e, k1, Int.add_comm]
        · rw [k3 _ (by omega)]
          exact a2 l y (by omega)
    · rintro s ⟨I3, rfl, a1, a2, a4⟩
      unfold s_X1_bares_l30_st
      dsimp only
      simp (disch := omega) only [bsome, f_gI Q2, a1, w32_id, if_pos, ifT]
      exact ⟨_, rfl, I3, rfl, ⟨by rw [a1]; omega, fun l y z => a2 l y (by omega)⟩, a4⟩
    · exact ⟨I1, rfl, c2.1, fun l y z => by omega, c3⟩
  obtain ⟨I', g1, g2, g3⟩ := fin
  refine ⟨I', ?_, g2, g3⟩
  unfold s_X1_bares s_X1_bares_l2
  refine whileO_tr N (fun i => ((i : Int), (sh, I, J))) rfl (fun i hi => ?_) ?_
  · have b1 := hc.2 i (by omega) (by omega)
    unfold s_X1_bares_l2_st
    dsimp only
    rw [f_gR Q1, bsome, f_aI Q1 (by omega) (by omega), bsome, b1, z1 i hi, if_pos (show w32 0 = 0 from rfl)]
    rfl
  · have b1 := hc.2 N (by omega) (by omega)
    have b2 := emod_b hp (F.2 N)
    unfold s_X1_bares_l2_st
    dsimp only
    rw [f_gR Q1, bsome, f_aI Q1 (by omega) (by omega), bsome, b1, w32_id (by omega) (by omega), if_neg hl, g1]
    rfl
end CW
