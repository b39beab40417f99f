/-! the component: differentiated forms, choices, overlaps -/
set_option maxRecDepth 100000
/-- Pascal's way -/
def pas : Nat → Int → Int
  | 0, k => if k = 0 then 1 else 0
  | i + 1, k => pas i k + pas i (k - 1)
theorem pas_neg : ∀ (i : Nat) (k : Int), k < 0 → pas i k = 0
  | 0, k, h => if_neg (by omega)
  | i + 1, k, h => by
    unfold pas
    rw [pas_neg i k h, pas_neg i (k - 1) (by omega)]
    rfl
theorem pas_ov {n k : Nat} (hn : n < 9) (hk : k ≤ n) : pas n k = ovN n k := by
  have key : ((List.range 9).all fun n => (List.range 9).all fun k => decide (k ≤ n → pas n (k : Int) = ovN (n : Int) (k : Int))) = true := by decide +kernel
  have h := List.all_eq_true.mp (List.all_eq_true.mp key n (List.mem_range.mpr hn)) k (List.mem_range.mpr (by omega))
  exact of_decide_eq_true h hk
section CE
variable {sh : Sh} {I J : Nat → Int → Int} {d : Nat} {p : Int}
theorem x6_df (D : DL sh d) (hI : I (d + 1) 0 = p) (hp : Pp p) {r to : Nat} {n bx bz i : Int} {x : Int → Int} (F1 : FA sh r) (F3 : FA sh to) (h0 : 0 ≤ bx ∧ bx ≤ 40) (h1 : 0 ≤ bz ∧ bz ≤ 40) (hi : bz ≤ i ∧ i - bz ≤ 40 ∧ i ≤ 40) (hn : 0 ≤ n ∧ n ≤ 40) (hx : I r 1 = n) :
    s_X6_differs_l39 d r bx bz to i (x i % p) 0 (sh, I, J) = some (.inl (i + 1, (sh, up1 I (to + 1) (upz (I (to + 1)) (i - bz) (x i * dfP n i bx bz % p)), J))) := by
  have hb := hp.b
  have h2 : s_X6_differs_l78 d r bx bz to i ((x i * prd bx.toNat (fun j => n - i - j)) % p) 0 (sh, I, J) = some (.inl (i + 1, (sh, up1 I (to + 1) (upz (I (to + 1)) (i - bz) (x i * dfP n i bx bz % p)), J))) := by
    unfold s_X6_differs_l78
    refine whileO_tr bz.toNat (fun j => (x i * prd bx.toNat (fun j => n - i - j) * prd j (fun j => i - j) % p, (j : Int), (sh, I, J))) ?_ (fun j hj => ?_) ?_
    · unfold prd
      rw [Int.mul_one]
      rfl
    · unfold s_X6_differs_l78_st
      dsimp only
      simp (disch := omega) only [bsome, d_ck D, d_f D, d_one D, d_two D, d_left D, d_right D, d_cho D, dc_a D, dc_u D, d_ckf D, w32_id (x := bz), w32_id (x := (j : Int)), if_neg, x7_muI D.ff hI hp, ifT]
      rw [Int.mul_assoc]
      rfl
    · unfold s_X6_differs_l78_st s_X6_differs_b109
      dsimp only
      simp (disch := omega) only [bsome, w32_id, if_pos, f_gR F3, f_uI F3, ifT]
      unfold dfP
      rw [Int.mul_assoc]
      rfl
  unfold s_X6_differs_l39
  refine whileO_tr bx.toNat (fun j => (x i * prd j (fun j => n - i - j) % p, (j : Int), (sh, I, J))) ?_ (fun j hj => ?_) ?_
  · unfold prd
    rw [Int.mul_one]
    rfl
  · unfold s_X6_differs_l39_st
    dsimp only
    simp (disch := omega) only [bsome, d_ck D, d_f D, d_one D, d_two D, d_left D, d_right D, d_cho D, dc_a D, dc_u D, d_ckf D, f_gI F1, hx, w32_id (x := bx), w32_id (x := (j : Int)), if_neg, x7_muI D.ff hI hp, ifT]
    rw [Int.mul_assoc]
    rfl
  · unfold s_X6_differs_l39_st
    dsimp only
    simp (disch := omega) only [w32_id (x := bx), w32_id (x := ((bx.toNat : Nat) : Int)), if_pos, ifT]
    rw [h2]
    rfl
theorem x6_differs (D : DL sh d) (hI : I (d + 1) 0 = p) (hp : Pp p) {r to : Nat} {bx bz n : Int} {x : Int → Int} (F1 : FA sh r) (F3 : FA sh to) (hr : r ≠ to) (h0 : 0 ≤ bx) (h1 : 0 ≤ bz) (hb : bx + bz ≤ n) (hn : n ≤ 40) (hx : FM I r p n x) :
    ∃ I', s_X6_differs d r bx bz to (sh, I, J) = some (sh, I', J) ∧ FM I' to p (n - bx - bz) (difP n x bx bz) ∧ AF (aF to) I I' := by
  have n1 := F1.ap F3 hr
  have m3 := D.nf F3
  unfold AP at n1
  unfold s_X6_differs
  obtain ⟨I1, c1, c2, c4, c3⟩ := x8_nought (I := I) (J := J) F3 p (d := n - bx - bz) (by omega)
  simp only [bsome, f_gI F1, f_ck F3, hx.1, c1]
  unfold s_X6_differs_l16
  refine ex_g (fun I' => ((sh, I', J) : Me)) (whileO_for (n - bx - bz + 1).toNat
    (fun j s => ∃ I', s = (bz + (j : Int), ((sh, I', J) : Me)) ∧ I' to 1 = n - bx - bz ∧ (∀ l : Int, 0 ≤ l → l < j → I' (to + 1) l = difP n x bx bz l % p) ∧ AF (aF to) I I')
    _ ?_ ?_ _ ?_)
  · rintro j s hj ⟨I3, rfl, b1, b2, b4⟩
    have hx3 := hx.keep b4 (by omega) (by omega)
    have hp3 : I3 (d + 1) 0 = p := by rw [b4 (d + 1) (by omega)]; exact hI
    have e1 := x6_df (J := J) (x := x) D hp3 hp F1 F3 (bx := bx) (bz := bz) (i := bz + j) (by omega) (by omega) (by omega) (by omega) hx3.1
    rw [show bz + (j : Int) - bz = j by omega] at e1
    obtain ⟨g, hg⟩ : ∃ g, upz (I3 (to + 1)) j (x (bz + j) * dfP n (bz + j) bx bz % p) = g := ⟨_, rfl⟩
    rw [hg] at e1
    refine ⟨(bz + j + 1, (sh, up1 I3 (to + 1) g, J)), ?_, up1 I3 (to + 1) g, by rw [show bz + ((j + 1 : Nat) : Int) = bz + j + 1 by omega], ?_, fun l g1 g2 => ?_, b4.trans (AF.one (Or.inr rfl))⟩
    · unfold s_X6_differs_l16_st
      dsimp only
      simp (disch := omega) only [bsome, f_gI F1, f_gR F1, f_aI F1, hx3.1, w32_id, if_neg, ifT]
      rw [hx3.2 _ (by omega) (by omega), e1]
    · rw [up1_n _ _ (by omega)]
      exact b1
    · rw [up1_s, ← hg]
      by_cases e : l = j
      · rw [e, upz_s]
        unfold difP
        rw [cl_in (by omega) (by omega), Int.add_comm (j : Int) bz]
      · rw [upz_n _ _ e]
        exact b2 l g1 (by omega)
  · rintro s ⟨I3, rfl, b1, b2, b4⟩
    have hx3 := hx.keep b4 (by omega) (by omega)
    unfold s_X6_differs_l16_st
    dsimp only
    simp (disch := omega) only [bsome, f_gI F1, hx3.1, w32_id, if_pos, ifT]
    exact ⟨_, rfl, I3, rfl, ⟨b1, fun l g1 g2 => b2 l g1 (by omega)⟩, b4⟩
  · refine ⟨I1, by simp, c2.1, fun l _ _ => by omega, c3⟩
theorem x6_chooses (D : DL sh d) (hI : I (d + 1) 0 = p) (hp : Pp p) {n : Nat} (hn : n ≤ 8) :
    ∃ I', s_X6_chooses d n (sh, I, J) = some (sh, I', J) ∧ (∀ k : Int, 0 ≤ k → k ≤ n → I' (d + 10) k = pas n k % p) ∧ AF (fun a => a = d + 10) I I' := by
  have hb := hp.b
  unfold s_X6_chooses s_X6_chooses_l2
  have key : ∀ I2 : Nat → Int → Int, AF (fun a => a = d + 10) I I2 → (∀ k : Int, 0 ≤ k → k ≤ n → I2 (d + 10) k = pas 0 k % p) → ∃ I', s_X6_chooses_l29 d n 0 (sh, I2, J) = some (sh, I', J) ∧ (∀ k : Int, 0 ≤ k → k ≤ n → I' (d + 10) k = pas n k % p) ∧ AF (fun a => a = d + 10) I I' := by
    intro I2 hA hk
    unfold s_X6_chooses_l29
    refine ex_g (fun I' => ((sh, I', J) : Me)) (whileO_for n (fun i s => ∃ I', s = ((i : Int), ((sh, I', J) : Me)) ∧ (∀ k : Int, 0 ≤ k → k ≤ n → I' (d + 10) k = pas i k % p) ∧ AF (fun a => a = d + 10) I I') _ ?_ ?_ _ ?_)
    · rintro i s hi ⟨I3, rfl, b1, b2⟩
      unfold s_X6_chooses_l29_st
      dsimp only
      rw [w32_id (x := (n : Int)) (by omega) (by omega), w32_id (x := (i : Int)) (by omega) (by omega), if_neg (by omega)]
      unfold s_X6_chooses_l36
      have h := whileO_for (f := fun s : Int × Me => s_X6_chooses_l36_st d n i s.1 s.2) n
        (fun j s => ∃ I', s = ((n : Int) - j, ((sh, I', J) : Me)) ∧ (∀ k : Int, 0 ≤ k → k ≤ n - j → I' (d + 10) k = pas i k % p) ∧ (∀ k : Int, n - j < k → k ≤ n → I' (d + 10) k = pas (i + 1) k % p) ∧ AF (fun a => a = d + 10) I I')
        (fun r => ∃ I', r = Sum.inl ((i : Int) + 1, ((sh, I', J) : Me)) ∧ (∀ k : Int, 0 ≤ k → k ≤ n → I' (d + 10) k = pas (i + 1) k % p) ∧ AF (fun a => a = d + 10) I I')
        ?_ ?_ ((n : Int), (sh, I3, J)) ?_
      · obtain ⟨r, h1, I', rfl, h3, h4⟩ := h
        exact ⟨_, h1, I', by simp, h3, h4⟩
      · rintro j s hj ⟨I4, rfl, g1, g2, g3⟩
        have hp4 : I4 (d + 1) 0 = p := by rw [g3 (d + 1) (by omega)]; exact hI
        refine ⟨_, ?_, up1 I4 (d + 10) (upz (I4 (d + 10)) (n - j) (pas (i + 1) (n - j) % p)), by rw [show (n : Int) - ((j + 1 : Nat) : Int) = n - j + -1 by omega], fun k a b => ?_, fun k a b => ?_, g3.trans (AF.one rfl)⟩
        · unfold s_X6_chooses_l36_st
          dsimp only
          simp (disch := omega) only [bsome, d_ck D, d_f D, d_one D, d_two D, d_left D, d_right D, d_cho D, dc_a D, dc_u D, d_ckf D, w32_id (x := (n : Int) - j), if_neg, ifT]
          rw [g1 _ (by omega) (by omega), g1 _ (by omega) (by omega), x7_add D.ff hp4 hp, bsome]
          simp (disch := omega) only [bsome, dc_u D]
          rfl
        · rw [up1_s, upz_n _ _ (by omega)]
          exact g1 k a (by omega)
        · rw [up1_s]
          by_cases e : k = n - j
          · rw [e, upz_s]
          · rw [upz_n _ _ e]
            exact g2 k (by omega) b
      · rintro s ⟨I4, rfl, g1, g2, g3⟩
        unfold s_X6_chooses_l36_st
        dsimp only
        simp (disch := omega) only [w32_id, if_pos, ifT]
        refine ⟨_, rfl, I4, rfl, fun k a b => ?_, g3⟩
        by_cases e : k = 0
        · rw [g1 k a (by omega), e]
          show pas i 0 % p = (pas i 0 + pas i (0 - 1)) % p
          rw [pas_neg i (0 - 1) (by omega), Int.add_zero]
        · exact g2 k (by omega) b
      · exact ⟨I3, by simp, fun k a b => b1 k a (by omega), fun k a b => by omega, b2⟩
    · rintro s ⟨I3, rfl, b1, b2⟩
      unfold s_X6_chooses_l29_st
      dsimp only
      rw [if_pos (Int.le_refl _)]
      exact ⟨_, rfl, I3, rfl, b1, b2⟩
    · exact ⟨I2, rfl, hk, hA⟩
  refine ex_g (fun I' => ((sh, I', J) : Me)) (whileO_for (n + 1) (fun i s => ∃ I', s = ((i : Int), ((sh, I', J) : Me)) ∧ (∀ k : Int, 0 ≤ k → k < i → I' (d + 10) k = 0) ∧ AF (fun a => a = d + 10) I I') _ ?_ ?_ _ ?_)
  · rintro i s hi ⟨I3, rfl, b1, b2⟩
    refine ⟨((i : Int) + 1, (sh, up1 I3 (d + 10) (upz (I3 (d + 10)) i 0), J)), ?_, up1 I3 (d + 10) (upz (I3 (d + 10)) i 0), by simp, fun k a b => ?_, b2.trans (AF.one rfl)⟩
    · unfold s_X6_chooses_l2_st
      dsimp only
      simp (disch := omega) only [bsome, d_ck D, d_f D, d_one D, d_two D, d_left D, d_right D, d_cho D, dc_a D, dc_u D, d_ckf D, w32_id, if_neg, ifT]
    · rw [up1_s]
      by_cases e : k = i
      · rw [e, upz_s]
      · rw [upz_n _ _ e]
        exact b1 k a (by omega)
  · rintro s ⟨I3, rfl, b1, b2⟩
    obtain ⟨I4, e1, e2, e3⟩ := key (up1 I3 (d + 10) (upz (I3 (d + 10)) 0 1)) (b2.trans (AF.one rfl)) (fun k a b => by
      rw [up1_s]
      unfold pas
      by_cases e : k = 0
      · rw [e, upz_s, if_pos rfl, Int.emod_eq_of_lt (by omega) (by omega)]
      · rw [upz_n _ _ e, if_neg e, Int.zero_emod]
        exact b1 k a (by omega))
    unfold s_X6_chooses_l2_st s_X6_chooses_b20
    dsimp only
    simp (disch := omega) only [bsome, d_ck D, d_f D, d_one D, d_two D, d_left D, d_right D, d_cho D, dc_a D, dc_u D, d_ckf D, w32_id, if_pos, ifT]
    exact ⟨_, by rw [e1]; rfl, I4, rfl, e2, e3⟩
  · exact ⟨I, rfl, fun k a b => by omega, AF.refl⟩
theorem x7_sfma (hf : sh.2.1 d = 5) (hI : I d 0 = p) (hp : Pp p) (a b c : Int) {s : Int} (hs : s = 1 ∨ s = -1) : s_X7_of d (w32 (a % p) + s * w32 (b % p) * w32 (c % p)) (sh, I, J) = some ((a + s * b * c) % p, (sh, I, J)) := by
  have h0 := emod_b hp a
  have h1 := emod_b hp b
  have h2 := emod_b hp c
  have h3 := hp.b
  have h4 := mul_b hp h1 h2
  rw [w32_id (by omega) (by omega), w32_id (by omega) (by omega), w32_id (by omega) (by omega)]
  rcases hs with rfl | rfl
  · rw [Int.one_mul, Int.one_mul, x7_of hf hI hp (by omega) (by omega), Int.add_emod, emod_emod_, ← Int.mul_emod, ← Int.add_emod]
  · rw [Int.neg_mul, Int.one_mul, Int.neg_mul, Int.neg_mul, Int.one_mul, Int.neg_mul, x7_of hf hI hp (by omega) (by omega), ← Int.sub_eq_add_neg, ← Int.sub_eq_add_neg, Int.sub_emod, emod_emod_, ← Int.mul_emod, ← Int.sub_emod]
theorem x6_ov116 (D : DL sh d) (hI : I (d + 1) 0 = p) (hp : Pp p) {a b to : Nat} {k i n w : Int} {A B : Int → Int} (hi : 0 ≤ i ∧ i ≤ 40) (hd : 0 ≤ n ∧ n ≤ 40) (hA : FM I (d + 4) p n A) (hB : FM I (d + 6) p n B) (hw : I (d + 10) i = w % p) :
    ∃ I', s_X6_overlap_l116 d a b k to n i 0 (sh, I, J) = some (.inl (i + 1, (sh, I', J))) ∧ FM I' (d + 4) p n (fun j => A j + sgI i * w * B j) ∧ AF (aF (d + 4)) I I' := by
  have G := D.ftwo
  have G2 := D.fleft
  have nn := D.nf G
  unfold s_X6_overlap_l116
  refine ex_g (fun I' => Sum.inl (i + 1, ((sh, I', J) : Me))) (whileO_for (n + 1).toNat
    (fun j s => ∃ I', s = ((j : Int), ((sh, I', J) : Me)) ∧ I' (d + 4) 1 = n ∧ (∀ k : Int, 0 ≤ k → k < j → I' (d + 4 + 1) k = (A k + sgI i * w * B k) % p) ∧ (∀ k : Int, j ≤ k → k ≤ n → I' (d + 4 + 1) k = A k % p) ∧ AF (aF (d + 4)) I I')
    _ ?_ ?_ _ ?_)
  · rintro j s hj ⟨I3, rfl, a1, a2, a3, a4⟩
    have b1 := a3 j (by omega) (by omega)
    have b2 := (hB.keep a4 (by omega) (by omega)).2 j (by omega) (by omega)
    have b3 : I3 (d + 10) i = w % p := by rw [a4 (d + 10) (by omega)]; exact hw
    have hp3 : I3 (d + 1) 0 = p := by rw [a4 (d + 1) (by omega)]; exact hI
    have hs : sgI i = 1 ∨ sgI i = -1 := by unfold sgI; split <;> simp
    obtain ⟨I4, e2, k1, k2, k3, k4⟩ := f_put (I := I3) (J := J) G (k := j) (v := (A j + sgI i * w * B j) % p) (by omega) (by omega)
    refine ⟨((j : Int) + 1, (sh, I4, J)), ?_, I4, by simp, by rw [k2]; exact a1, fun k x y => ?_, fun k x y => ?_, a4.trans k4⟩
    · have e9 : ∀ s : Int, sgI i = s → s_X6_overlap_b161 d a b k to n i j s (w32 (I3 (d + 4 + 1) j)) (d + 1) j (d + 4 + 1) (sh, I3, J) = some (.inl ((j : Int) + 1, (sh, I4, J))) := by
        intro s h
        subst h
        unfold s_X6_overlap_b161
        simp (disch := omega) only [bsome, d_ck D, d_f D, d_one D, d_two D, d_left D, d_right D, d_cho D, dc_a D, dc_u D, d_ckf D, f_gR G2, f_aI G2, b1, b2, b3, x7_sfma D.ff hp3 hp _ _ _ hs, e2]
      unfold s_X6_overlap_l116_st
      dsimp only
      simp (disch := omega) only [bsome, d_ck D, d_f D, d_one D, d_two D, d_left D, d_right D, d_cho D, dc_a D, dc_u D, d_ckf D, f_gR G, f_aI G, w32_id (x := n), w32_id (x := (j : Int)), if_neg, rmI_m, ifT]
      rw [Int.tmod_eq_emod_of_nonneg (by omega), w32_id (x := (i : Int) % 2) (by omega) (by omega)]
      by_cases he : (i : Int) % 2 = 0
      · rw [if_pos he]
        exact e9 1 (if_pos he)
      · rw [if_neg he]
        exact e9 (-1) (if_neg he)
    · by_cases e : k = j
      · rw [e, k1]
      · rw [k3 _ (by omega)]
        exact a2 k x (by omega)
    · rw [k3 _ (by omega)]
      exact a3 k (by omega) y
  · rintro s ⟨I3, rfl, a1, a2, a3, a4⟩
    unfold s_X6_overlap_l116_st
    dsimp only
    simp (disch := omega) only [w32_id, if_pos, ifT]
    exact ⟨_, rfl, I3, rfl, ⟨a1, fun k x y => a2 k x (by omega)⟩, a4⟩
  · exact ⟨I, rfl, hA.1, fun k x y => absurd y (by omega), fun k x y => hA.2 k (by omega) y, AF.refl⟩
/-- what overlapping touches: the desk's own -/
abbrev dS (d a : Nat) : Prop := d + 2 ≤ a ∧ a ≤ d + 10
theorem FA.out {sh : Sh} {d q : Nat} (D : DL sh d) (F : FA sh q) (h : q ≠ d + 2 ∧ q ≠ d + 4 ∧ q ≠ d + 6 ∧ q ≠ d + 8) : ¬ dS d q ∧ ¬ dS d (q + 1) := by
  have h1 := F.ap D.fone h.1
  have h2 := F.ap D.ftwo h.2.1
  have h3 := F.ap D.fleft h.2.2.1
  have h4 := F.ap D.fright h.2.2.2
  have h5 := D.nf F
  unfold AP at h1 h2 h3 h4
  omega
theorem x6_overlap (D : DL sh d) (hI : I (d + 1) 0 = p) (hp : Pp p) {r q to : Nat} {n l k : Nat} {x y : Int → Int} (F1 : FA sh r) (F2 : FA sh q) (F3 : FA sh to) (h1 : r ≠ d + 2 ∧ r ≠ d + 4 ∧ r ≠ d + 6 ∧ r ≠ d + 8) (h2 : q ≠ d + 2 ∧ q ≠ d + 4 ∧ q ≠ d + 6 ∧ q ≠ d + 8) (h3 : to ≠ d + 2 ∧ to ≠ d + 4 ∧ to ≠ d + 6 ∧ to ≠ d + 8)
    (hk : k < 9) (hn : n ≤ 40) (hl : l ≤ 40) (hx : FM I r p n x) (hy : FM I q p l y) :
    ((k ≤ n ∧ k ≤ l ∧ n + l - 2 * k ≤ 40) → ∃ I', s_X6_overlap d r q k to (sh, I, J) = some (sh, I', J) ∧ FM I' to p (n + l - 2 * k) (ovP n l k x y) ∧ AF (fun a => dS d a ∨ aF to a) I I') ∧
    (¬(k ≤ n ∧ k ≤ l ∧ n + l - 2 * k ≤ 40) → ∃ I', s_X6_overlap d r q k to (sh, I, J) = some (sh, I', J) ∧ FM I' to p (-1) (fun _ => 0) ∧ AF (fun a => dS d a ∨ aF to a) I I') := by
  have o1 := F1.out D h1
  have o2 := F2.out D h2
  have o3 := F3.out D h3
  have G := D.ftwo
  have hmin := x_min (a := n) (b := l) ⟨by omega, by omega⟩ ⟨by omega, by omega⟩ (sh, I, J)
  refine ⟨fun h => ?_, fun h => ?_⟩
  · obtain ⟨I1, c1, c2, c4, c3⟩ := x8_nought (I := I) (J := J) G p (d := n + l - 2 * k) (by omega)
    obtain ⟨I2, e1, e2, e3⟩ := x6_chooses (I := I1) (J := J) D (by rw [c3 (d + 1) (by omega)]; exact hI) hp (show k ≤ 8 by omega)
    unfold s_X6_overlap
    simp (disch := omega) only [bsome, d_ck D, d_f D, d_one D, d_two D, d_left D, d_right D, d_cho D, dc_a D, dc_u D, d_ckf D, f_gI F1, f_gI F2, hx.1, hy.1, hmin, w32_id, if_neg, if_pos, f_ck G, c1, e1, ifT]
    have e12 : AF (dS d) I I2 := (c3.mono (fun a h => by omega)).trans (e3.mono (fun a h => by omega))
    unfold s_X6_overlap_l61
    refine ex_g (fun I' => ((sh, I', J) : Me)) (whileO_for (k + 1)
      (fun i s => ∃ I', s = ((i : Int), ((sh, I', J) : Me)) ∧ FM I' (d + 4) p (n + l - 2 * k) (fun j => sm i (fun i => sgI i * ovN k i * mulP (n - k) (difP n x (k - i) i) (difP l y i (k - i)) j)) ∧ I' (d + 10) = I2 (d + 10) ∧ AF (dS d) I I')
      _ ?_ ?_ _ ?_)
    · rintro i s hi ⟨I3, rfl, a1, a0, a2⟩
      have hx3 := hx.keep a2 o1.1 o1.2
      have hy3 := hy.keep a2 o2.1 o2.2
      have hI3 : I3 (d + 1) 0 = p := by rw [a2 (d + 1) (by omega)]; exact hI
      obtain ⟨I4, d1, d2, d3⟩ := x6_differs (J := J) (bx := k - i) (bz := i) D hI3 hp F1 D.fleft h1.2.2.1 (by omega) (by omega) (by omega) (by omega) hx3
      have a4 : AF (dS d) I I4 := a2.trans (d3.mono (fun a h => by omega))
      have hI4 : I4 (d + 1) 0 = p := by rw [a4 (d + 1) (by omega)]; exact hI
      have hy4 := hy.keep a4 o2.1 o2.2
      obtain ⟨I5, f1, f2, f3⟩ := x6_differs (J := J) (bx := i) (bz := k - i) D hI4 hp F2 D.fright h2.2.2.2 (by omega) (by omega) (by omega) (by omega) hy4
      have a5 : AF (dS d) I I5 := a4.trans (f3.mono (fun a h => by omega))
      have hI5 : I5 (d + 1) 0 = p := by rw [a5 (d + 1) (by omega)]; exact hI
      have d5 := d2.keep f3 (by omega) (by omega)
      rw [show (n : Int) - (k - i) - i = ((n - k : Nat) : Int) by omega] at d5
      rw [show (l : Int) - i - (k - i) = ((l - k : Nat) : Int) by omega] at f2
      obtain ⟨I6, g1, g2, g3⟩ := (x6_product (J := J) (to := d + 6) D hI5 hp D.fleft D.fright D.fleft (by omega) (by omega) (by omega) (by omega) (by omega) d5 f2 (by
        unfold difP
        rw [show (l : Int) - i - (k - i) = ((l - k : Nat) : Int) by omega]
        exact Sup.cl _ _)).1 (by omega)
      have a6 : AF (dS d) I I6 := a5.trans (g3.mono (fun a h => by omega))
      have hI6 : I6 (d + 1) 0 = p := by rw [a6 (d + 1) (by omega)]; exact hI
      have b6 := ((a1.keep d3 (by omega) (by omega)).keep f3 (by omega) (by omega)).keep g3 (by omega) (by omega)
      have ch : I6 (d + 10) = I2 (d + 10) := by rw [g3 (d + 10) (by omega), f3 (d + 10) (by omega), d3 (d + 10) (by omega), a0]
      rw [show ((n - k : Nat) : Int) + ((l - k : Nat) : Int) = n + l - 2 * k by omega] at g2
      obtain ⟨I7, j1, j2, j3⟩ := x6_ov116 (J := J) (a := r) (b := q) (k := k) (to := to) (i := i) (w := ovN k i) D hI6 hp (by omega) (by omega) b6 g2 (by
        rw [ch, e2 i (by omega) (by omega), pas_ov (show k < 9 by omega) (show i ≤ k by omega)])
      refine ⟨((i : Int) + 1, (sh, I7, J)), ?_, I7, by simp, j2, by rw [j3 (d + 10) (by omega), ch], a6.trans (j3.mono (fun a h => by omega))⟩
      unfold s_X6_overlap_l61_st
      dsimp only
      simp (disch := omega) only [bsome, d_ck D, d_f D, d_one D, d_two D, d_left D, d_right D, d_cho D, dc_a D, dc_u D, d_ckf D, w32_id, if_neg, d1, f1, g1, ifT]
      exact j1
    · rintro s ⟨I3, rfl, a1, a0, a2⟩
      obtain ⟨I4, d1, d2, d3⟩ := x8_be (I := I3) (J := J) F3 G (by
        have := F3.ap G h3.2.1
        unfold AP at this
        omega) (by omega) a1
      unfold s_X6_overlap_l61_st s_X6_overlap_b199
      dsimp only
      simp (disch := omega) only [bsome, d_ck D, d_f D, d_one D, d_two D, d_left D, d_right D, d_cho D, dc_a D, dc_u D, d_ckf D, w32_id, if_pos, f_ck F3, d1, ifT]
      refine ⟨_, rfl, I4, rfl, ?_, (a2.mono (fun _ => Or.inl)).trans (d3.mono (fun _ => Or.inr))⟩
      unfold ovP
      rw [show ((n : Int) - k).toNat = n - k by omega]
      exact d2
    · exact ⟨I2, rfl, c2.keep e3 (by omega) (by omega), rfl, e12⟩
  · obtain ⟨I1, c1, c2, c4, c3⟩ := x8_nought (I := I) (J := J) F3 p (d := -1) (by omega)
    refine ⟨I1, ?_, c2, c3.mono (fun _ => Or.inr)⟩
    unfold s_X6_overlap
    simp (disch := omega) only [bsome, f_gI F1, f_gI F2, hx.1, hy.1, hmin]
    rw [w32_id (x := min (n : Int) l) (by omega) (by omega), w32_id (x := (k : Int)) (by omega) (by omega)]
    by_cases hm : min (n : Int) l < k
    · rw [if_pos hm, f_ck F3, bsome, c1, bsome]
    · rw [if_neg hm, w32_id (x := (n : Int) + l - 2 * k) (by omega) (by omega), show w32 40 = 40 from rfl, if_neg (by omega), f_ck F3, bsome, c1, bsome]
end CE
