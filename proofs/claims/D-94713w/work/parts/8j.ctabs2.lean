/-! the component: same, keep, orbit, kind -/
set_option maxRecDepth 100000
section CU
variable {sh : Sh} {I J : Nat → Int → Int} {x : Nat} {p : Int} {W : Int → Int}
theorem x_same (L : CL sh x) (R : Room sh) (hS : SR sh I (x + 16) W) (hI : I (x + 5 + 1) 0 = W 0) (hW : WI W) {f g : Int} (hf : i32 f) (hg : i32 g) :
    ((0 ≤ f ∧ f < W 1) → (0 ≤ g ∧ g < W 1) → CG (s_X1_same x f g (sh, I, J)) sh I J x (smP (W 0) (fF W f) (fF W g))) ∧ (¬((0 ≤ f ∧ f < W 1) ∧ (0 ≤ g ∧ g < W 1)) → CB (s_X1_same x f g (sh, I, J)) sh I J 3) := by
  have hc1 := hW.c1
  obtain ⟨y1, y2⟩ := x1_formAt (J := J) L R (n := W 1) hS.1.1.2.1 (by omega) hf
  obtain ⟨z1, z2⟩ := x1_formAt (J := J) L R (n := W 1) hS.1.1.2.1 (by omega) hg
  unfold s_X1_same
  rw [l_ck L, bsome]
  refine ⟨fun h1 h2 => ?_, fun h => ?_⟩
  · obtain ⟨f1, f2⟩ := hS.ff hW h1.1 h1.2
    obtain ⟨g1, g2⟩ := hS.ff hW h2.1 h2.2
    have Q1 := L.q (k := f) (by omega)
    have Q2 := L.q (k := g) (by omega)
    rw [y1 h1, xb_r, l_ck L, bsome, z1 h2, xb_r, f_gI Q1, bsome, f1.1, f_gI Q2, bsome, g1.1, w32_id (x := ((fF W f).1 : Int)) (by omega) (by omega), w32_id (x := ((fF W g).1 : Int)) (by omega) (by omega)]
    unfold smP
    by_cases h : (fF W f).1 = (fF W g).1
    · rw [if_pos (by omega), if_pos h, l_ck L, bsome]
      obtain ⟨I1, e1, e2⟩ := x1_tables (J := J) L hI hW.pp (w := 1) (Or.inr rfl) (show (fF W f).1 ≤ 40 by omega) (show (fF W g).1 ≤ 40 by omega) Q1 Q2 (by omega) (by omega) f1 g1
      exact ⟨I1, by rw [e1, bsome], e2⟩
    · rw [if_neg (by omega), if_neg h]
      exact CG.of rfl
  · unfold CB
    by_cases g1 : 0 ≤ f ∧ f < W 1
    · have := z2 (fun e => h ⟨g1, e⟩)
      unfold CB at this
      rw [y1 g1, xb_r, l_ck L, bsome, this, xb_l]
    · have := y2 g1
      unfold CB at this
      rw [this, xb_l]
theorem x_keep (L : CL sh x) (R : Room sh) (hS : SR sh I (x + 16) W) (hI : I (x + 5 + 1) 0 = W 0) (hW : WI W) {f : Int} (hf : i32 f) :
    ((0 ≤ f ∧ f < W 1) → CG (s_X1_keep x f (sh, I, J)) sh I J x (triP (W 0) (fF W f) (fF W f) 0)) ∧ (¬(0 ≤ f ∧ f < W 1) → CB (s_X1_keep x f (sh, I, J)) sh I J 3) := by
  have hc1 := hW.c1
  obtain ⟨y1, y2⟩ := x1_formAt (J := J) L R (n := W 1) hS.1.1.2.1 (by omega) hf
  unfold s_X1_keep
  rw [l_ck L, bsome]
  refine ⟨fun h1 => ?_, fun h => ?_⟩
  · obtain ⟨f1, f2⟩ := hS.ff hW h1.1 h1.2
    have Q1 := L.q (k := f) (by omega)
    obtain ⟨I1, e1, e2⟩ := x1_tables (J := J) L hI hW.pp (w := 0) (Or.inl rfl) (show (fF W f).1 ≤ 40 by omega) (show (fF W f).1 ≤ 40 by omega) Q1 Q1 (by omega) (by omega) f1 f1
    rw [y1 h1, xb_r, l_ck L, bsome, e1, bsome]
    exact ⟨I1, rfl, e2⟩
  · have := y2 h
    unfold CB at this ⊢
    rw [this, xb_l]
theorem x_orbit (L : CL sh x) (R : Room sh) (hS : SR sh I (x + 16) W) (hI : I (x + 5 + 1) 0 = W 0) (hW : WI W) {f : Int} (hf : i32 f) :
    ((0 ≤ f ∧ f < W 1) → CG (s_X1_orbit x f (sh, I, J)) sh I J x (obP (W 0) (fF W f))) ∧ (¬(0 ≤ f ∧ f < W 1) → CB (s_X1_orbit x f (sh, I, J)) sh I J 3) := by
  have hc1 := hW.c1
  have hp := hW.pp
  have D := L.dl
  obtain ⟨y1, y2⟩ := x1_formAt (J := J) L R (n := W 1) hS.1.1.2.1 (by omega) hf
  unfold s_X1_orbit
  rw [l_ck L, bsome]
  refine ⟨fun h1 => ?_, fun h => ?_⟩
  · obtain ⟨f1, f2⟩ := hS.ff hW h1.1 h1.2
    have Q1 := L.q (k := f) (by omega)
    obtain ⟨I1, e1, e2⟩ := x1_tables (J := J) L hI hW.pp (w := 0) (Or.inl rfl) (show (fF W f).1 ≤ 40 by omega) (show (fF W f).1 ≤ 40 by omega) Q1 Q1 (by omega) (by omega) f1 f1
    have t1 := (tri_self hp (fF W f)).1
    have t2 := tri_le hp (fF W f) (fF W f)
    have hall : 0 ≤ (W 0 * W 0 - 1) * (W 0 * W 0 - W 0) ∧ (W 0 * W 0 - 1) * (W 0 * W 0 - W 0) < 2147483648 := by
      rcases hp with h | h | h | h <;> rw [h] <;> decide
    have e4 : dvI ((W 0 * W 0 - 1) * (W 0 * W 0 - W 0)) (triP (W 0) (fF W f) (fF W f) 0) = some (obP (W 0) (fF W f)) := by
      unfold dvI
      rw [w32_id (x := triP (W 0) (fF W f) (fF W f) 0) (by omega) (by omega), if_neg (by omega), w32_id (by omega) (by omega)]
      rfl
    rw [y1 h1, xb_r, l_dk L, bsome, d_f D, bsome, gI_m D.ff, bsome, hI, l_ck L, bsome, e1, bsome]
    dsimp only
    rw [e4, bsome]
    exact ⟨I1, rfl, e2⟩
  · have := y2 h
    unfold CB at this ⊢
    rw [this, xb_l]
theorem x_kind (L : CL sh x) (R : Room sh) (hS : SR sh I (x + 16) W) (hI : I (x + 5 + 1) 0 = W 0) (hW : WI W) {f : Int} (hf : i32 f) :
    ((0 ≤ f ∧ f < W 1) → CG (s_X1_kind x f (sh, I, J)) sh I J x (fst0 (knP W f) (f.toNat + 1) 0)) ∧ (¬(0 ≤ f ∧ f < W 1) → CB (s_X1_kind x f (sh, I, J)) sh I J 3) := by
  have hc1 := hW.c1
  have hp := hW.pp
  have T := L.st
  obtain ⟨y1, y2⟩ := x1_formAt (J := J) L R (n := W 1) hS.1.1.2.1 (by omega) hf
  unfold s_X1_kind
  rw [l_ck L, bsome]
  refine ⟨fun h1 => ?_, fun h => ?_⟩
  · obtain ⟨f1, f2⟩ := hS.ff hW h1.1 h1.2
    have Q1 := L.q (k := f) (by omega)
    rw [y1 h1, xb_r]
    have self : knP W f f.toNat = 0 := by
      unfold knP smP
      rw [Int.toNat_of_nonneg h1.1, if_pos rfl, if_neg (by have := (tri_self hp (fF W f)).2; omega)]
    have key : ∀ (n i : Nat) (I' : Nat → Int → Int), i + n = f.toNat + 1 → 1 ≤ n → AF (xS x) I I' → ∃ I2, s_X1_kind_l8 x (x + 16 + 13 + 2 * f.toNat) i (sh, I', J) = some (.inr (fst0 (knP W f) n i, (sh, I2, J))) ∧ AF (xS x) I I2 := by
      intro n
      induction n with
      | zero => intro i I' _ h; omega
      | succ n ih =>
        intro i I' hi _ hA
        obtain ⟨g1, g2⟩ := hS.ff hW (k := (i : Int)) (by omega) (by omega)
        have Q2 := L.q (k := (i : Int)) (by omega)
        rw [Int.toNat_natCast] at g1 Q2
        have g4 := xS.q hA g1 (by omega) (by omega)
        have f4 := xS.q hA f1 (by omega) (by omega)
        have hI' : I' (x + 5 + 1) 0 = W 0 := by rw [xS.f hA]; exact hI
        have ef : fst0 (knP W f) (n + 1) i = if knP W f i = 0 then (i : Int) else fst0 (knP W f) n (i + 1) := rfl
        have next : knP W f i ≠ 0 → 1 ≤ n := by
          intro hk
          have : i ≠ f.toNat := fun e => hk (e ▸ self)
          omega
        rw [e_X1_kind_l8]
        unfold s_X1_kind_l8_st
        rw [l_st L, bsome, s_fo T, bsome, s_form T (by omega), bsome, f_gI Q2, bsome, g4.1, f_gI Q1, bsome, f4.1, w32_id (x := ((fF W i).1 : Int)) (by omega) (by omega), w32_id (x := ((fF W f).1 : Int)) (by omega) (by omega)]
        by_cases hd : (fF W i).1 = (fF W f).1
        · obtain ⟨I1, e1, e2⟩ := x1_tables (J := J) L hI' hp (w := 1) (Or.inr rfl) (show (fF W i).1 ≤ 40 by omega) (show (fF W f).1 ≤ 40 by omega) Q2 Q1 (by omega) (by omega) g4 f4
          have ek : knP W f i = if triP (W 0) (fF W i) (fF W f) 1 < 0 then 1 else 0 := by
            unfold knP smP
            rw [if_pos hd]
          have sb := sm_bd hp (fF W i) (fF W f)
          unfold smP at sb
          rw [if_pos hd] at sb
          rw [if_pos (by omega), bsome, s_fo T, bsome, s_form T (by omega), bsome, l_ck L, bsome, e1, bsome]
          dsimp only
          rw [w32_id (by omega) (by omega), show w32 (-1) = -1 from rfl]
          by_cases hk : triP (W 0) (fF W i) (fF W f) 1 = -1
          · rw [if_pos (by omega)] at ek
            rw [if_pos hk, ef, ek, if_neg (by decide)]
            obtain ⟨I4, q1, q2⟩ := ih (i + 1) I1 (by omega) (next (by omega)) (hA.trans e2)
            exact ⟨I4, q1, q2⟩
          · rw [if_neg (by omega)] at ek
            rw [if_neg hk, ef, ek, if_pos rfl]
            exact ⟨I1, rfl, hA.trans e2⟩
        · have ek : knP W f i = 1 := by
            unfold knP smP
            rw [if_neg hd]
            rfl
          rw [if_neg (by omega), ef, ek, if_neg (by decide)]
          obtain ⟨I4, q1, q2⟩ := ih (i + 1) I' (by omega) (next (by omega)) hA
          exact ⟨I4, q1, q2⟩
    obtain ⟨I2, q1, q2⟩ := key (f.toNat + 1) 0 I (by omega) (by omega) AF.refl
    exact ⟨I2, q1, q2⟩
  · have := y2 h
    unfold CB at this ⊢
    rw [this, xb_l]
end CU
