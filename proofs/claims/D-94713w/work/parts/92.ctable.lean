/-! the component: tables, the field -/
set_option maxRecDepth 100000
/-- a new cell -/
def shNw (sh : Sh) (c : Nat) (l : Int) (N : Nat) : Sh := ((sh.1.1 + 1, sh.1.2.1 - 1, sh.1.2.2 - N), up1 sh.2.1 sh.1.1 c, up1 sh.2.2.1 sh.1.1 l, up1 sh.2.2.2 sh.1.1 (fun _ => none))
theorem addT_o (W : Int → Int) {a b c d k : Int} (h2 : k ≠ 2) (h : k < 166 + 4 * W 2 ∨ 166 + 4 * W 2 + 4 ≤ k) : addT W a b c d k = W k := by
  unfold addT
  rw [upz_n _ _ h2, upz_n _ _ (by omega), upz_n _ _ (by omega), upz_n _ _ (by omega), upz_n _ _ (by omega)]
theorem addT_2 (W : Int → Int) {a b c d : Int} : addT W a b c d 2 = W 2 + 1 := upz_s _ _ _
theorem addT_t {W : Int → Int} {a b c d : Int} (h : 0 ≤ W 2) : tT (addT W a b c d) (W 2) 0 = a ∧ tT (addT W a b c d) (W 2) 1 = b ∧ tT (addT W a b c d) (W 2) 2 = c ∧ tT (addT W a b c d) (W 2) 3 = d := by
  unfold tT addT
  refine ⟨?_, ?_, ?_, ?_⟩
  · rw [upz_n _ _ (by omega), upz_n _ _ (by omega), upz_n _ _ (by omega), upz_n _ _ (by omega), Int.add_zero, upz_s]
  · rw [upz_n _ _ (by omega), upz_n _ _ (by omega), upz_n _ _ (by omega), upz_s]
  · rw [upz_n _ _ (by omega), upz_n _ _ (by omega), upz_s]
  · rw [upz_n _ _ (by omega), upz_s]
theorem WI.addT {W : Int → Int} (h : WI W) (h8 : W 2 < 8) {a b c d : Int} (hT : wT (W 0) a b c d) : WI (addT W a b c d) := by
  have c2 := h.c2
  have o := fun k (h2 : k ≠ 2) hh => addT_o W (a := a) (b := b) (c := c) (d := d) (k := k) h2 hh
  have e0 := o 0 (by omega) (by omega)
  have e1 := o 1 (by omega) (by omega)
  have e2 := addT_2 W (a := a) (b := b) (c := c) (d := d)
  have e3 := o 3 (by omega) (by omega)
  have e4 := o 4 (by omega) (by omega)
  have e5 := o 5 (by omega) (by omega)
  refine WI.mk (by rw [e0]; exact h.pp) (by rw [e1]; exact h.c1) (by rw [e2]; omega) (by rw [e3]; exact h.c3) (by rw [e4, e5]; exact h.c4) (h.wF_ext e0 e1 (fun j u v => o j (by omega) (by omega))) (fun t u v => ?_) (h.wA_ext e0 (by omega) (by omega) (fun j u v => o j (by omega) (by omega)))
  rw [e2] at v
  rw [e0]
  by_cases e : t = W 2
  · obtain ⟨t0, t1, t2, t3⟩ := addT_t (W := W) (a := a) (b := b) (c := c) (d := d) c2.1
    rw [e, t0, t1, t2, t3]
    exact hT
  · have g : ∀ i, 0 ≤ i → i < 4 → tT (Jvm.Pilot.CLetterFormsLaw_law_r4541_621673.addT W a b c d) t i = tT W t i := fun i u2 v2 => o _ (by omega) (by omega)
    rw [g 0 (by omega) (by omega), g 1 (by omega) (by omega), g 2 (by omega) (by omega), g 3 (by omega) (by omega)]
    exact h.t u (by omega)
section CTb
variable {sh sh' : Sh} {I I' J : Nat → Int → Int} {x S : Nat} {p : Int} {W W' : Int → Int}
theorem SR.addT (h : SR sh I S W) (hW : WI W) (h8 : W 2 < 8) {a b c d : Int} (t0 : I' (S + 3 + (W 2).toNat) 0 = a) (t1 : I' (S + 3 + (W 2).toNat) 1 = b) (t2 : I' (S + 3 + (W 2).toNat) 2 = c) (t3 : I' (S + 3 + (W 2).toNat) 3 = d) (hS : I' S = upz (I S) 6 (W 2 + 1)) (hI : ∀ q, S < q → q ≤ S + 244 → q ≠ S + 3 + (W 2).toNat → I' q = I q) (hR : sh'.2.2.2 (S + 11) = sh.2.2.2 (S + 11) ∧ sh'.2.2.2 (S + 12) = sh.2.2.2 (S + 12)) (hA : ∀ (n : Nat) (t : Tr n) (q : Nat), SA sh I n t q → SA sh' I' n t q) : SR sh' I' S (addT W a b c d) := by
  have c2 := hW.c2
  obtain ⟨h1, h2, h3, h4, h5⟩ := SR_iff.mp h
  have o := fun k (h2 : k ≠ 2) hh => addT_o W (a := a) (b := b) (c := c) (d := d) (k := k) h2 hh
  have e0 := o 0 (by omega) (by omega)
  have e1 := o 1 (by omega) (by omega)
  have e2 := addT_2 W (a := a) (b := b) (c := c) (d := d)
  have e3 := o 3 (by omega) (by omega)
  have e4 := o 4 (by omega) (by omega)
  have e5 := o 5 (by omega) (by omega)
  refine SR_iff.mpr ⟨?_, h2.ext hW e0 e1 (fun j u v => o j (by omega) (by omega)) (fun q u v => hI q (by omega) (by omega) (by omega)), fun t ht i u v => ?_, h4.ext hW e3 (fun j u v => o j (by omega) (by omega)) hR.1 hA, h5.ext hW e0 e1 e4 e5 (fun j u v => o j (by omega) (by omega)) (fun j u v => o j (by omega) (by omega)) (fun q u v => hI q (by omega) (by omega) (by omega)) hR.2⟩
  · unfold SRc at h1 ⊢
    rw [e0, e1, e2, e3, e4, e5, hS, upz_n _ _ (by decide), upz_n _ _ (by decide), upz_s, upz_n _ _ (by decide), upz_n _ _ (by decide), upz_n _ _ (by decide)]
    exact ⟨⟨h1.1.1, h1.1.2.1, rfl, h1.1.2.2.2⟩, h1.2⟩
  · rw [e2] at ht
    by_cases e : (t : Int) = W 2
    · obtain ⟨g0, g1, g2, g3⟩ := addT_t (W := W) (a := a) (b := b) (c := c) (d := d) c2.1
      rw [e, show t = (W 2).toNat by omega]
      have : i = 0 ∨ i = 1 ∨ i = 2 ∨ i = 3 := by omega
      rcases this with e | e | e | e <;> rw [e]
      · rw [t0, g0]
      · rw [t1, g1]
      · rw [t2, g2]
      · rw [t3, g3]
    · rw [hI _ (by omega) (by omega) (by omega)]
      show _ = Jvm.Pilot.CLetterFormsLaw_law_r4541_621673.addT W a b c d (166 + 4 * t + i)
      rw [o _ (by omega) (by omega)]
      exact h3 t (by omega) i u v
/-- a state's move: answered r, the state says W', all else (but scratch) stays -/
def CSt (y : Option (Ex ⊕ (Int × Me))) (sh sh' : Sh) (I J : Nat → Int → Int) (x : Nat) (r : Int) (W' : Int → Int) : Prop := ∃ I' J', y = some (.inr (r, (sh', I', J'))) ∧ SR sh' I' (x + 16) W' ∧ (∀ a, a < sh.1.1 → ¬ xS x a → (a < x + 16 ∨ x + 260 < a) → I' a = I a) ∧ ∀ a, a < sh.1.1 → J' a = J a
/-- adding a table -/
theorem x1_adds (L : CL sh x) (R : Room sh) (hS : SR sh I (x + 16) W) (hW : WI W) {a b c d : Int} :
    (W 2 < 8 → CSt (s_X1_adds x a b c d (sh, I, J)) sh sh I J x (W 2) (addT W a b c d)) ∧ (W 2 = 8 → CB (s_X1_adds x a b c d (sh, I, J)) sh I J 2) := by
  have c2 := hW.c2
  have T := L.st
  have h6 : I (x + 16) 6 = W 2 := hS.1.1.2.2.1
  unfold s_X1_adds
  rw [l_st L, bsome, s_gI T, bsome, h6, show w32 8 = 8 from rfl, w32_id (x := W 2) (by omega) (by omega)]
  refine ⟨fun h => ?_, fun h => ?_⟩
  · rw [if_neg (by omega)]
    have st := s_table (I := I) (J := J) T (k := (W 2).toNat) (by omega)
    rw [Int.toNat_of_nonneg c2.1] at st
    have ta := T.ta (k := (W 2).toNat) (by omega)
    unfold s_X1_adds_b17
    rw [x1_mayBe1, xb_r, l_st L, bsome, s_tb T, bsome, bsome, s_gI T, bsome, h6, st, bsome, uI_m ta (by omega) (by omega), bsome, uI_m ta (by omega) (by omega), bsome, uI_m ta (by omega) (by omega), bsome, uI_m ta (by omega) (by omega), bsome]
    simp only [up1_s, up1_up1]
    obtain ⟨I1, hI1⟩ : ∃ I1, up1 I (x + 16 + 3 + (W 2).toNat) (upz (upz (upz (upz (I (x + 16 + 3 + (W 2).toNat)) 0 a) 1 b) 2 c) 3 d) = I1 := ⟨_, rfl⟩
    rw [hI1]
    have o1 : I1 (x + 16) = I (x + 16) := by rw [← hI1, up1_n _ _ (by omega)]
    rw [l_st L, bsome, s_gI T, bsome, o1, h6, s_pI T, bsome, o1]
    obtain ⟨I2, hI2⟩ : ∃ I2, up1 I1 (x + 16) (upz (I (x + 16)) 6 (W 2 + 1)) = I2 := ⟨_, rfl⟩
    rw [hI2, l_st L, bsome, s_gI T, bsome]
    have o2 : I2 (x + 16) = upz (I (x + 16)) 6 (W 2 + 1) := by rw [← hI2, up1_s]
    have o3 : I2 (x + 16 + 3 + (W 2).toNat) = upz (upz (upz (upz (I (x + 16 + 3 + (W 2).toNat)) 0 a) 1 b) 2 c) 3 d := by rw [← hI2, up1_n _ _ (by omega), ← hI1, up1_s]
    have o4 : ∀ q, q ≠ x + 16 → q ≠ x + 16 + 3 + (W 2).toNat → I2 q = I q := fun q u v => by rw [← hI2, up1_n _ _ u, ← hI1, up1_n _ _ v]
    refine ⟨I2, J, ?_, ?_, fun q _ _ hq => o4 q (by omega) (by omega), fun _ _ => rfl⟩
    · rw [o2, upz_s, show W 2 + 1 - 1 = W 2 by omega]
    · have kind : ∀ q, sh.2.1 q = 10 ∨ sh.2.1 q = 12 → I2 q = I q := fun q hq => o4 q (fun e => by rw [e, T.1] at hq; omega) (fun e => by rw [e, ta.1] at hq; omega)
      exact hS.addT hW h (by rw [o3, upz_n _ _ (by decide), upz_n _ _ (by decide), upz_n _ _ (by decide), upz_s]) (by rw [o3, upz_n _ _ (by decide), upz_n _ _ (by decide), upz_s]) (by rw [o3, upz_n _ _ (by decide), upz_s]) (by rw [o3, upz_s]) o2 (fun q u v w => o4 q (by omega) w) ⟨rfl, rfl⟩ (fun n t q g => SA.keep kind n t q g)
  · rw [if_pos (by omega)]
    unfold CB s_X1_adds_b17
    rw [x1_mayBe0 R, xb_l]
theorem x1_two (L : CL sh x) (hI : I (x + 5 + 1) 0 = p) (hp : Pp p) {a b c d : Int} (ha : -1000 ≤ a ∧ a ≤ 1000) (hb : -1000 ≤ b ∧ b ≤ 1000) (hc : -1000 ≤ c ∧ c ≤ 1000) (hd : -1000 ≤ d ∧ d ≤ 1000) : s_X1_two x a b c d (sh, I, J) = some ((a * b + c * d) % p, (sh, I, J)) := by
  have D := L.dl
  have m1 := bd_mul (a := a) (b := b) (by omega) (by omega)
  have m2 := bd_mul (a := c) (b := d) (by omega) (by omega)
  unfold s_X1_two
  rw [l_dk L, bsome, d_f D, bsome, d_ckf D, bsome, w32_id (x := a) (by omega) (by omega), w32_id (x := b) (by omega) (by omega), w32_id (x := c) (by omega) (by omega), w32_id (x := d) (by omega) (by omega), x7_of D.ff hI hp (by omega) (by omega), bsome]
theorem x_join (L : CL sh x) (R : Room sh) (hS : SR sh I (x + 16) W) (hI : I (x + 5 + 1) 0 = W 0) (hW : WI W) {t u : Int} (ht : i32 t) (hu : i32 u) :
    ((0 ≤ t ∧ t < W 2) → (0 ≤ u ∧ u < W 2) → W 2 < 8 → CSt (s_X1_join x t u (sh, I, J)) sh sh I J x (W 2) (addT W ((tT W t 0 * tT W u 0 + tT W t 1 * tT W u 2) % W 0) ((tT W t 0 * tT W u 1 + tT W t 1 * tT W u 3) % W 0) ((tT W t 2 * tT W u 0 + tT W t 3 * tT W u 2) % W 0) ((tT W t 2 * tT W u 1 + tT W t 3 * tT W u 3) % W 0))) ∧
    (¬((0 ≤ t ∧ t < W 2) ∧ (0 ≤ u ∧ u < W 2)) → CB (s_X1_join x t u (sh, I, J)) sh I J 3) ∧
    ((0 ≤ t ∧ t < W 2) → (0 ≤ u ∧ u < W 2) → W 2 = 8 → CB (s_X1_join x t u (sh, I, J)) sh I J 2) := by
  have hc2 := hW.c2
  have hp := hW.pp
  have hb := hp.b
  obtain ⟨y1, y2⟩ := x1_tableAt (J := J) L R (n := W 2) hS.1.1.2.2.1 (by omega) ht
  obtain ⟨z1, z2⟩ := x1_tableAt (J := J) L R (n := W 2) hS.1.1.2.2.1 (by omega) hu
  have run : (0 ≤ t ∧ t < W 2) → (0 ≤ u ∧ u < W 2) → s_X1_join x t u (sh, I, J) = xb (s_X1_adds x ((tT W t 0 * tT W u 0 + tT W t 1 * tT W u 2) % W 0) ((tT W t 0 * tT W u 1 + tT W t 1 * tT W u 3) % W 0) ((tT W t 2 * tT W u 0 + tT W t 3 * tT W u 2) % W 0) ((tT W t 2 * tT W u 1 + tT W t 3 * tT W u 3) % W 0) (sh, I, J)) (fun e32 => some (.inl e32)) fun q31 => some (.inr (q31.1, q31.2)) := by
    intro h1 h2
    obtain ⟨t0, t1, t2, t3, -⟩ := hW.t h1.1 h1.2
    obtain ⟨u0, u1, u2, u3, -⟩ := hW.t h2.1 h2.2
    have a0 := x1_ta (J := J) L hS hW h1.1 h1.2 (i := 0) (by omega) (by omega)
    have a1 := x1_ta (J := J) L hS hW h1.1 h1.2 (i := 1) (by omega) (by omega)
    have a2 := x1_ta (J := J) L hS hW h1.1 h1.2 (i := 2) (by omega) (by omega)
    have a3 := x1_ta (J := J) L hS hW h1.1 h1.2 (i := 3) (by omega) (by omega)
    have b0 := x1_ta (J := J) L hS hW h2.1 h2.2 (i := 0) (by omega) (by omega)
    have b1 := x1_ta (J := J) L hS hW h2.1 h2.2 (i := 1) (by omega) (by omega)
    have b2 := x1_ta (J := J) L hS hW h2.1 h2.2 (i := 2) (by omega) (by omega)
    have b3 := x1_ta (J := J) L hS hW h2.1 h2.2 (i := 3) (by omega) (by omega)
    unfold s_X1_join
    rw [l_ck L, bsome, y1 h1, xb_r, l_ck L, bsome, z1 h2, xb_r]
    dsimp only
    rw [a0, bsome, b0, bsome, a1, bsome, b2, bsome, l_ck L, bsome, x1_two L hI hp (by omega) (by omega) (by omega) (by omega), bsome]
    dsimp only
    rw [a0, bsome, b1, bsome, a1, bsome, b3, bsome, l_ck L, bsome, x1_two L hI hp (by omega) (by omega) (by omega) (by omega), bsome]
    dsimp only
    rw [a2, bsome, b0, bsome, a3, bsome, b2, bsome, l_ck L, bsome, x1_two L hI hp (by omega) (by omega) (by omega) (by omega), bsome]
    dsimp only
    rw [a2, bsome, b1, bsome, a3, bsome, b3, bsome, l_ck L, bsome, x1_two L hI hp (by omega) (by omega) (by omega) (by omega), bsome]
    dsimp only
    rw [l_ck L, bsome]
  refine ⟨fun h1 h2 h3 => ?_, fun h => ?_, fun h1 h2 h3 => ?_⟩
  · obtain ⟨I', J', e, g⟩ := (x1_adds (J := J) L R hS hW).1 h3
    rw [run h1 h2]
    exact ⟨I', J', by rw [e, xb_r], g⟩
  · unfold CB s_X1_join
    rw [l_ck L, bsome]
    by_cases g1 : 0 ≤ t ∧ t < W 2
    · have := z2 (fun e => h ⟨g1, e⟩)
      unfold CB at this
      rw [y1 g1, xb_r, l_ck L, bsome, this, xb_l]
    · have := y2 g1
      unfold CB at this
      rw [this, xb_l]
  · have := (x1_adds (J := J) (a := (tT W t 0 * tT W u 0 + tT W t 1 * tT W u 2) % W 0) (b := (tT W t 0 * tT W u 1 + tT W t 1 * tT W u 3) % W 0) (c := (tT W t 2 * tT W u 0 + tT W t 3 * tT W u 2) % W 0) (d := (tT W t 2 * tT W u 1 + tT W t 3 * tT W u 3) % W 0) L R hS hW).2 h3
    unfold CB at this ⊢
    rw [run h1 h2, this, xb_l]
theorem x_turn (L : CL sh x) (R : Room sh) (hS : SR sh I (x + 16) W) (hI : I (x + 5 + 1) 0 = W 0) (hW : WI W) {t : Int} (ht : i32 t) {v : Int × Int × Int × Int} (hv : ivT (W 0) (tT W t 0) (tT W t 1) (tT W t 2) (tT W t 3) = v) :
    ((0 ≤ t ∧ t < W 2) → W 2 < 8 → CSt (s_X1_turn x t (sh, I, J)) sh sh I J x (W 2) (addT W v.1 v.2.1 v.2.2.1 v.2.2.2)) ∧
    (¬(0 ≤ t ∧ t < W 2) → CB (s_X1_turn x t (sh, I, J)) sh I J 3) ∧
    ((0 ≤ t ∧ t < W 2) → W 2 = 8 → CB (s_X1_turn x t (sh, I, J)) sh I J 2) := by
  have hc2 := hW.c2
  have hp := hW.pp
  have hb := hp.b
  have D := L.dl
  obtain ⟨y1, y2⟩ := x1_tableAt (J := J) L R (n := W 2) hS.1.1.2.2.1 (by omega) ht
  have run : (0 ≤ t ∧ t < W 2) → s_X1_turn x t (sh, I, J) = xb (s_X1_adds x v.1 v.2.1 v.2.2.1 v.2.2.2 (sh, I, J)) (fun e27 => some (.inl e27)) fun q26 => some (.inr (q26.1, q26.2)) := by
    intro h1
    obtain ⟨t0, t1, t2, t3, -⟩ := hW.t h1.1 h1.2
    have a0 := x1_ta (J := J) L hS hW h1.1 h1.2 (i := 0) (by omega) (by omega)
    have a1 := x1_ta (J := J) L hS hW h1.1 h1.2 (i := 1) (by omega) (by omega)
    have a2 := x1_ta (J := J) L hS hW h1.1 h1.2 (i := 2) (by omega) (by omega)
    have a3 := x1_ta (J := J) L hS hW h1.1 h1.2 (i := 3) (by omega) (by omega)
    have ib := emod_b hp (dtP (tT W t 0) (tT W t 1) (tT W t 2) (tT W t 3))
    obtain ⟨s, hs⟩ : ∃ s, ivS (W 0) (dtP (tT W t 0) (tT W t 1) (tT W t 2) (tT W t 3) % W 0) = s := ⟨_, rfl⟩
    have sb : 0 ≤ s ∧ s < W 0 := by rw [← hs]; exact emod_b hp _
    have ei := x7_inverse (J := J) D.ff hI hp (dtP (tT W t 0) (tT W t 1) (tT W t 2) (tT W t 3))
    rw [hs] at ei
    rw [← hv]
    unfold ivT
    rw [hs]
    unfold s_X1_turn
    rw [l_ck L, bsome, y1 h1, xb_r]
    dsimp only
    rw [l_dk L, bsome, d_f D, bsome, a0, bsome, a1, bsome, a2, bsome, a3, bsome, l_ck L, bsome, x1_detOf L hI hp (by omega) (by omega) (by omega) (by omega), bsome]
    dsimp only
    rw [d_ckf D, bsome, ei, bsome]
    dsimp only
    rw [a3, bsome, l_ck L, bsome, x1_two L hI hp (by omega) (by omega) (by omega) (by omega), bsome]
    dsimp only
    rw [a1, bsome, l_ck L, bsome, x1_two L hI hp (by omega) (by omega) (by omega) (by omega), bsome]
    dsimp only
    rw [a2, bsome, l_ck L, bsome, x1_two L hI hp (by omega) (by omega) (by omega) (by omega), bsome]
    dsimp only
    rw [a0, bsome, l_ck L, bsome, x1_two L hI hp (by omega) (by omega) (by omega) (by omega), bsome]
    dsimp only
    rw [l_ck L, bsome, Int.mul_zero, Int.add_zero, Int.add_zero, Int.add_zero, Int.add_zero, show -(tT W t 1) = 0 - tT W t 1 by omega, show -(tT W t 2) = 0 - tT W t 2 by omega]
  refine ⟨fun h1 h3 => ?_, fun h => ?_, fun h1 h3 => ?_⟩
  · obtain ⟨I', J', e, g⟩ := (x1_adds (J := J) L R hS hW).1 h3
    rw [run h1]
    exact ⟨I', J', by rw [e, xb_r], g⟩
  · have := y2 h
    unfold CB at this ⊢
    unfold s_X1_turn
    rw [l_ck L, bsome, this, xb_l]
  · have := (x1_adds (J := J) (a := v.1) (b := v.2.1) (c := v.2.2.1) (d := v.2.2.2) L R hS hW).2 h3
    unfold CB at this ⊢
    rw [run h1, this, xb_l]
end CTb
