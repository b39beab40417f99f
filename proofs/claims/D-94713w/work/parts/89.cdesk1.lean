/-! the component: the desk's products -/
set_option maxRecDepth 100000
/-- a desk lies at d -/
def DL (sh : Sh) (d : Nat) : Prop := sh.2.1 d = 4 ∧ (sh.2.2.2 d 0 = some (d + 1) ∧ sh.2.1 (d + 1) = 5) ∧ (sh.2.2.2 d 1 = some (d + 2) ∧ FA sh (d + 2)) ∧ (sh.2.2.2 d 2 = some (d + 4) ∧ FA sh (d + 4)) ∧ (sh.2.2.2 d 3 = some (d + 6) ∧ FA sh (d + 6)) ∧ (sh.2.2.2 d 4 = some (d + 8) ∧ FA sh (d + 8)) ∧ sh.2.2.2 d 5 = some (d + 10) ∧ AR sh (d + 10) 101 41
/-- apart: two forms -/
def AP (q r : Nat) : Prop := q ≠ r ∧ q + 1 ≠ r ∧ q ≠ r + 1
theorem FA.ap {sh : Sh} {q r : Nat} (F : FA sh q) (G : FA sh r) (h : q ≠ r) : AP q r := by
  refine ⟨h, fun e => ?_, fun e => ?_⟩
  · have h1 := F.2.2.1
    rw [e, G.1] at h1
    omega
  · have h1 := G.2.2.1
    rw [← e, F.1] at h1
    omega
section CD
variable {sh : Sh} {I J : Nat → Int → Int} {d : Nat} {p : Int}
theorem d_ck (D : DL sh d) : ck (sh, I, J) 4 d = some () := ck_m D.1
theorem d_ckf (D : DL sh d) : ck (sh, I, J) 5 (d + 1) = some () := ck_m D.2.1.2
theorem d_f (D : DL sh d) : gR (sh, I, J) 4 d 0 = some (d + 1) := gR_m D.1 D.2.1.1
theorem d_one (D : DL sh d) : gR (sh, I, J) 4 d 1 = some (d + 2) := gR_m D.1 D.2.2.1.1
theorem d_two (D : DL sh d) : gR (sh, I, J) 4 d 2 = some (d + 4) := gR_m D.1 D.2.2.2.1.1
theorem d_left (D : DL sh d) : gR (sh, I, J) 4 d 3 = some (d + 6) := gR_m D.1 D.2.2.2.2.1.1
theorem d_right (D : DL sh d) : gR (sh, I, J) 4 d 4 = some (d + 8) := gR_m D.1 D.2.2.2.2.2.1.1
theorem d_cho (D : DL sh d) : gR (sh, I, J) 4 d 5 = some (d + 10) := gR_m D.1 D.2.2.2.2.2.2.1
theorem dc_a (D : DL sh d) {j : Int} (h0 : 0 ≤ j) (h1 : j < 41) : aI (sh, I, J) 101 (d + 10) j = some (I (d + 10) j) := aI_m D.2.2.2.2.2.2.2 h0 h1
theorem dc_u (D : DL sh d) {j v : Int} (h0 : 0 ≤ j) (h1 : j < 41) : uI (sh, I, J) (d + 10) j v = some (sh, up1 I (d + 10) (upz (I (d + 10)) j v), J) := uI_m D.2.2.2.2.2.2.2 h0 h1
theorem DL.fone (D : DL sh d) : FA sh (d + 2) := D.2.2.1.2
theorem DL.ftwo (D : DL sh d) : FA sh (d + 4) := D.2.2.2.1.2
theorem DL.fleft (D : DL sh d) : FA sh (d + 6) := D.2.2.2.2.1.2
theorem DL.fright (D : DL sh d) : FA sh (d + 8) := D.2.2.2.2.2.1.2
theorem DL.ff (D : DL sh d) : sh.2.1 (d + 1) = 5 := D.2.1.2
/-- a form isn't the desk, nor the field, nor the row of choices -/
theorem DL.nf (D : DL sh d) {q : Nat} (F : FA sh q) : (q ≠ d ∧ q + 1 ≠ d) ∧ (q ≠ d + 1 ∧ q + 1 ≠ d + 1) ∧ q ≠ d + 10 := by
  have h1 := F.1
  have h2 := F.2.2.1
  refine ⟨⟨fun e => ?_, fun e => ?_⟩, ⟨fun e => ?_, fun e => ?_⟩, fun e => ?_⟩
  · rw [e, D.1] at h1; omega
  · rw [e, D.1] at h2; omega
  · rw [e, D.ff] at h1; omega
  · rw [e, D.ff] at h2; omega
  · rw [e, D.2.2.2.2.2.2.2.1] at h1; omega
/-- one number of a form is put -/
theorem f_put {q : Nat} (F : FA sh q) {k v : Int} (h2 : 0 ≤ k) (h3 : k < 41) : ∃ I', uI (sh, I, J) (q + 1) k v = some (sh, I', J) ∧ I' (q + 1) k = v ∧ I' q = I q ∧ (∀ j, j ≠ k → I' (q + 1) j = I (q + 1) j) ∧ AF (aF q) I I' := by
  refine ⟨_, f_uI F h2 h3, ?_, ?_, fun j hj => ?_, AF.one (Or.inr rfl)⟩
  · rw [up1_s, upz_s]
  · rw [up1_n _ _ (by omega)]
  · rw [up1_s, upz_n _ _ hj]
theorem x6_pr48 (D : DL sh d) (hI : I (d + 1) 0 = p) (hp : Pp p) {r q to : Nat} {n k i : Nat} {x y A : Int → Int} (F1 : FA sh r) (F2 : FA sh q) (a1 : r ≠ d + 2) (a2 : q ≠ d + 2) (hn : n + k ≤ 40) (hi : i ≤ n) (hx : FM I r p n x) (hy : FM I q p k y) (hs : Sup k y) (hA : FM I (d + 2) p (n + k) A) :
    ∃ I', s_X6_product_l48 d r q to i 0 (sh, I, J) = some (.inl ((i : Int) + 1, (sh, I', J))) ∧ FM I' (d + 2) p (n + k) (fun j => A j + x i * y (j - i)) ∧ AF (aF (d + 2)) I I' := by
  have n1 := F1.ap D.fone a1
  have n2 := F2.ap D.fone a2
  have m1 := D.nf D.fone
  unfold AP at n1 n2
  have G := D.fone
  unfold s_X6_product_l48
  refine ex_g (fun I' => Sum.inl ((i : Int) + 1, ((sh, I', J) : Me))) (whileO_for (k + 1)
    (fun j s => ∃ I', s = ((j : Int), ((sh, I', J) : Me)) ∧ I' (d + 2) 1 = n + k ∧ (∀ l : Int, 0 ≤ l → l ≤ n + k → i ≤ l → l < i + j → I' (d + 2 + 1) l = (A l + x i * y (l - i)) % p) ∧ (∀ l : Int, 0 ≤ l → l ≤ n + k → (l < i ∨ i + j ≤ l) → I' (d + 2 + 1) l = A l % p) ∧ AF (aF (d + 2)) I I')
    _ ?_ ?_ _ ?_)
  · rintro j s hj ⟨I3, rfl, b1, b2, b3, b4⟩
    have c1 := b3 (i + j) (by omega) (by omega) (by omega)
    have hx3 := hx.keep b4 (by omega) (by omega)
    have hy3 := hy.keep b4 (by omega) (by omega)
    have c2 := hx3.2 i (by omega) (by omega)
    have c3 := hy3.2 j (by omega) (by omega)
    have hp3 : I3 (d + 1) 0 = p := by rw [b4 (d + 1) (by omega)]; exact hI
    obtain ⟨I4, e2, k1, k2, k3, k4⟩ := f_put (I := I3) (J := J) G (k := i + j) (v := (A (i + j) + x i * y j) % p) (by omega) (by omega)
    refine ⟨((j : Int) + 1, (sh, I4, J)), ?_, I4, by simp, by rw [k2]; exact b1, fun l g1 g2 g3 g4 => ?_, fun l g1 g2 g3 => ?_, b4.trans k4⟩
    · unfold s_X6_product_l48_st
      dsimp only
      simp (disch := omega) only [bsome, d_ck D, d_f D, d_one D, d_two D, d_left D, d_right D, d_cho D, dc_a D, dc_u D, d_ckf D, f_gI F2, f_gR F1, f_gR F2, f_gR G, f_aI F1, f_aI F2, f_aI G, hy3.1, w32_id (x := (k : Int)), w32_id (x := (j : Int)), if_neg, c1, c2, c3, x7_fma D.ff hp3 hp, e2, ifT]
    · by_cases e : l = i + j
      · rw [e, k1, show (i : Int) + j - i = j by omega]
      · rw [k3 _ (by omega)]
        exact b2 l g1 g2 g3 (by omega)
    · rw [k3 _ (by omega)]
      exact b3 l g1 g2 (by omega)
  · rintro s ⟨I3, rfl, b1, b2, b3, b4⟩
    have hy3 := hy.keep b4 (by omega) (by omega)
    unfold s_X6_product_l48_st
    dsimp only
    simp (disch := omega) only [bsome, f_gI F2, hy3.1, w32_id, if_pos, ifT]
    refine ⟨_, rfl, I3, rfl, ⟨b1, fun l g1 g2 => ?_⟩, b4⟩
    by_cases h : (i : Int) ≤ l ∧ l < i + (k + 1)
    · exact b2 l g1 g2 h.1 (by omega)
    · rw [b3 l g1 g2 (by omega)]
      dsimp only
      rw [hs (l - i) (by omega), Int.mul_zero, Int.add_zero]
  · exact ⟨I, rfl, hA.1, fun l _ _ _ _ => by omega, fun l g1 g2 _ => hA.2 l g1 g2, AF.refl⟩
theorem x6_product (D : DL sh d) (hI : I (d + 1) 0 = p) (hp : Pp p) {r q to : Nat} {n k : Nat} {x y : Int → Int} (F1 : FA sh r) (F2 : FA sh q) (F3 : FA sh to) (a1 : r ≠ d + 2) (a2 : q ≠ d + 2) (a3 : to ≠ d + 2) (hn : n ≤ 40) (hk : k ≤ 40) (hx : FM I r p n x) (hy : FM I q p k y) (hs : Sup k y) :
    (n + k ≤ 40 → ∃ I', s_X6_product d r q to (sh, I, J) = some (sh, I', J) ∧ FM I' to p (n + k) (mulP n x y) ∧ AF (fun a => aF (d + 2) a ∨ aF to a) I I') ∧
    (40 < n + k → ∃ I', s_X6_product d r q to (sh, I, J) = some (sh, I', J) ∧ FM I' to p (-1) (fun _ => 0) ∧ AF (aF to) I I') := by
  have n1 := F1.ap D.fone a1
  have n2 := F2.ap D.fone a2
  have n3 := F3.ap D.fone a3
  have m1 := D.nf D.fone
  unfold AP at n1 n2 n3
  have G := D.fone
  refine ⟨fun h => ?_, fun h => ?_⟩
  · unfold s_X6_product
    obtain ⟨I1, c1, c2, c4, c3⟩ := x8_nought (I := I) (J := J) G p (d := n + k) (by omega)
    simp (disch := omega) only [bsome, d_ck D, d_f D, d_one D, d_two D, d_left D, d_right D, d_cho D, dc_a D, dc_u D, d_ckf D, f_gI F1, f_gI F2, f_ck G, hx.1, hy.1, c1, w32_id, if_pos, ifT]
    unfold s_X6_product_l36
    refine ex_g (fun I' => ((sh, I', J) : Me)) (whileO_for (n + 1)
      (fun i s => ∃ I', s = ((i : Int), ((sh, I', J) : Me)) ∧ FM I' (d + 2) p (n + k) (fun j => sm i (fun l => x l * y (j - l))) ∧ AF (aF (d + 2)) I I')
      _ ?_ ?_ _ ?_)
    · rintro i s hi ⟨I3, rfl, b1, b2⟩
      have hx3 := hx.keep b2 (by omega) (by omega)
      have hy3 := hy.keep b2 (by omega) (by omega)
      have hp3 : I3 (d + 1) 0 = p := by rw [b2 (d + 1) (by omega)]; exact hI
      obtain ⟨I4, e1, e2, e3⟩ := x6_pr48 (J := J) (to := to) D hp3 hp F1 F2 a1 a2 h (show i ≤ n by omega) hx3 hy3 hs b1
      refine ⟨((i : Int) + 1, (sh, I4, J)), ?_, I4, by simp, e2, b2.trans e3⟩
      unfold s_X6_product_l36_st
      dsimp only
      simp (disch := omega) only [bsome, f_gI F1, hx3.1, w32_id, if_neg, e1, ifT]
    · rintro s ⟨I3, rfl, b1, b2⟩
      have hx3 := hx.keep b2 (by omega) (by omega)
      obtain ⟨I4, e1, e2, e3⟩ := x8_be (I := I3) (J := J) F3 G (by omega) (by omega) b1
      refine ⟨(sh, I4, J), ?_, I4, rfl, e2, (b2.mono (fun _ => Or.inl)).trans (e3.mono (fun _ => Or.inr))⟩
      unfold s_X6_product_l36_st s_X6_product_b121
      dsimp only
      simp (disch := omega) only [bsome, d_ck D, d_f D, d_one D, d_two D, d_left D, d_right D, d_cho D, dc_a D, dc_u D, d_ckf D, f_gI F1, f_ck F3, hx3.1, w32_id, if_pos, e1, ifT]
      rfl
    · exact ⟨I1, rfl, c2, c3⟩
  · unfold s_X6_product
    obtain ⟨I1, c1, c2, c4, c3⟩ := x8_nought (I := I) (J := J) F3 p (d := -1) (by omega)
    simp (disch := omega) only [bsome, f_gI F1, f_gI F2, f_ck F3, hx.1, hy.1, c1, w32_id, if_neg, ifT]
    exact ⟨I1, rfl, c2, c3⟩
end CD
