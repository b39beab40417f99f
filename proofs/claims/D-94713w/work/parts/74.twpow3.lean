/-! the twin: powers, the call -/
set_option maxRecDepth 100000
def tlP (many : Int) (s f : Int → Int) (k : Int) : Int := if k = -1 then many else if 0 ≤ k ∧ k < many then s k else if 10 ≤ k ∧ k < 10 + many then f (k - 10) else -1
def two2 (r : Int × Int) : Int → Int := fun j => if j = 0 then r.1 else r.2
def thr3 (r : Int × Int × Int) : Int → Int := fun j => if j = 0 then r.1 else if j = 1 then r.2.1 else r.2.2
def pwP (p : Int) (F : Fo) (k : Int) : Int :=
  if nzI p F.2 (F.1 + 1) = 1 then tlP 0 (fun _ => 0) (fun _ => 0) k
  else match ad1 p F.1 F.2 with
    | some r => tlP 1 (fun _ => r.1) (fun _ => r.2) k
    | none => match ad2 p F.1 F.2 with
      | some r => tlP 2 (two2 r.1) (two2 r.2) k
      | none => match ad3 p F.1 F.2 with
        | some r => tlP 3 (thr3 r.1) (thr3 r.2) k
        | none => -1
theorem tlP_congr {many : Int} {s f s' f' : Int → Int} (k : Int) (h : ∀ j, 0 ≤ j → j < many → s j = s' j ∧ f j = f' j) : tlP many s f k = tlP many s' f' k := by
  unfold tlP
  split
  · rfl
  · split
    · next h1 => exact (h k h1.1 h1.2).1
    · split
      · next h1 => exact (h (k - 10) (by omega) (by omega)).2
      · rfl
section TP3
variable {sh : Sh} {I J : Nat → Int → Int} {m : Nat} {p : Int} {F : Fo}
theorem q_b121 (T : TL sh m) {I' : Nat → Int → Int} {many k : Int} (h29 : I' m 29 = many) (hm : 0 ≤ many ∧ many ≤ 3) (hk : -1 ≤ k ∧ k < 2147483648) :
    s_X11_powers_b121 m k (sh, I', J) = some (tlP many (I' (m + 13)) (I' (m + 14)) k, (sh, I', J)) := by
  unfold s_X11_powers_b121 tlP
  simp (disch := omega) only [t_gI T, bsome, h29, w32_id (x := many), w32_id (x := 3), if_pos, ifT]
  rw [w32_id (by omega) hk.2]
  by_cases h1 : k = -1
  · rw [if_neg (by omega), if_pos h1]
  · rw [if_pos (by omega), if_neg h1, x_in ⟨by omega, hk.2⟩ ⟨by omega, by omega⟩ ⟨by omega, by omega⟩, bsome]
    dsimp only
    by_cases h2 : 0 ≤ k ∧ k < many
    · rw [if_pos (show 0 ≤ k ∧ k ≤ many - 1 by omega), if_pos h2]
      simp (disch := omega) only [bsome, t_ck T, t_gI T, t_pI T, t_gJ T, t_pJ T, tR_spot T, tA_spot T, tU_spot T, w32_id (x := 1), if_neg, ifT]
    · rw [if_neg (show ¬(0 ≤ k ∧ k ≤ many - 1) by omega), if_neg h2, if_pos (show w32 0 = 0 from rfl), t_gI T, bsome, h29, x_in (x := k - 10) ⟨by omega, by omega⟩ ⟨by omega, by omega⟩ ⟨by omega, by omega⟩, bsome]
      dsimp only
      by_cases h3 : 10 ≤ k ∧ k < 10 + many
      · rw [if_pos (show 0 ≤ k - 10 ∧ k - 10 ≤ many - 1 by omega), if_pos h3]
        simp (disch := omega) only [bsome, t_ck T, t_gI T, t_pI T, t_gJ T, t_pJ T, tR_factor T, tA_factor T, tU_factor T, w32_id (x := 1), if_neg, ifT]
      · rw [if_neg (show ¬(0 ≤ k - 10 ∧ k - 10 ≤ many - 1) by omega), if_neg h3]
        rfl
/-- one turn: found, or one more -/
theorem q_l82 (T : TL sh m) {many k : Int} (h29 : I m 29 = many) (hm : 1 ≤ many ∧ many ≤ 3) (hk : -1 ≤ k ∧ k < 2147483648) {I1 : Nat → Int → Int} (h1 : ∀ a : Nat, a ≠ m + 3 → a ≠ m + 4 → a ≠ m + 13 → a ≠ m + 14 → I1 a = I a) :
    (∀ I2, s_X11_isSum m many (sh, I1, J) = some (0, (sh, I2, J)) → I2 m = I m → s_X11_powers_l82 m k (sh, I1, J) = s_X11_powers_l82 m k (sh, up1 I2 m (upz (I2 m) 29 (many + 1)), J)) ∧
    ∀ I2, s_X11_isSum m many (sh, I1, J) = some (1, (sh, I2, J)) → I2 m = I m → s_X11_powers_l82 m k (sh, I1, J) = some (tlP many (I2 (m + 13)) (I2 (m + 14)) k, (sh, I2, J)) := by
  have h9 : I1 m 29 = many := by rw [h1 _ (by omega) (by omega) (by omega) (by omega), h29]
  refine ⟨fun I2 e hI2 => ?_, fun I2 e hI2 => ?_⟩
  · have h2 : I2 m 29 = many := by rw [hI2, h29]
    rw [e_X11_powers_l82]
    unfold s_X11_powers_l82_st
    simp (disch := omega) only [t_ck T, t_gI T, t_pI T, bsome, h9, w32_id (x := many), w32_id (x := 4), if_neg, e, w32_id (x := 0), if_pos, h2, ifT]
    rfl
  · have h2 : I2 m 29 = many := by rw [hI2, h29]
    have e2 := q_b121 (J := J) T h2 (by omega) hk
    rw [e_X11_powers_l82]
    unfold s_X11_powers_l82_st
    simp (disch := omega) only [t_ck T, t_gI T, bsome, h9, w32_id (x := many), w32_id (x := 4), if_neg, e, w32_id (x := 1), e2, ifT]
    rfl
theorem PQ.up {A : (Int → Int) → (Int → Int) → Prop} {I2 : Nat → Int → Int} {c : Int} (h : PQ sh I J m p F A (sh, I2, J)) : PQ sh (up1 I m (upz (I m) 29 c)) J m p F A (sh, up1 I2 m (upz (I2 m) 29 c), J) := by
  obtain ⟨I', h1, h2, h3, h4⟩ := h
  have e : I2 = I' := congrArg (fun z : Me => z.2.1) h1
  subst e
  refine ⟨_, rfl, fun a x y z w => ?_, h3.ext (up1_n _ _ (by omega)) (up1_n _ _ (by omega)), by rw [up1_n _ _ (by omega), up1_n _ _ (by omega)]; exact h4⟩
  by_cases e : a = m
  · rw [e, up1_s, up1_s, h2 m (by omega) (by omega) (by omega) (by omega)]
  · rw [up1_n _ _ e, up1_n _ _ e, h2 a x y z w]
theorem q_powers (T : TL sh m) (hI : I (m + 1) 0 = p) (hp : Pp p) (hF : F.1 ≤ 8) (hP : PW I m p F.1) {k : Int} (hk : -1 ≤ k ∧ k < 2147483648) (hn : nzI p F.2 (F.1 + 1) = 0) (h29 : I m 29 = 1) (hc : RW I m p 40 F.1 F.2) :
    ∃ I', s_X11_powers_l82 m k (sh, I, J) = some (pwP p F k, (sh, I', J)) ∧ (∀ a : Nat, a ≠ m → a ≠ m + 3 → a ≠ m + 4 → a ≠ m + 13 → a ≠ m + 14 → I' a = I a) ∧ ∀ j : Int, j ≠ 29 → I' m j = I m j := by
  have q0 : PQ sh I J m p F (fun _ _ => True) (sh, I, J) := ⟨I, rfl, fun _ _ _ _ _ => rfl, hc, trivial⟩
  unfold pwP
  rw [hn, if_neg (by decide)]
  obtain ⟨s1, s2⟩ := q_isSum1 T hI hp hF hP q0
  cases h1 : ad1 p F.1 F.2 with
  | some r =>
    obtain ⟨μ', e1, I1, rfl, y1, y2, y3⟩ := s2 r h1
    have := (q_l82 (J := J) T h29 (by omega) hk (I1 := I) (fun _ _ _ _ _ => rfl)).2 I1 e1 (y1 _ (by omega) (by omega) (by omega) (by omega))
    refine ⟨I1, ?_, fun a _ x y z w => y1 a x y z w, fun j _ => by rw [y1 _ (by omega) (by omega) (by omega) (by omega)]⟩
    rw [this]
    congr 2
    refine tlP_congr k (fun j j0 j1 => ?_)
    have : j = 0 := by omega
    subst this
    exact y3
  | none =>
    obtain ⟨μ', e1, I1, rfl, y1, y2, y3⟩ := s1 h1
    have t1 := (q_l82 (J := J) T h29 (by omega) hk (I1 := I) (fun _ _ _ _ _ => rfl)).1 I1 e1 (y1 _ (by omega) (by omega) (by omega) (by omega))
    rw [show (1 : Int) + 1 = 2 from rfl] at t1
    have qa := PQ.up (sh := sh) (J := J) (c := 2) (A := fun _ _ => True) (show PQ sh I J m p F (fun _ _ => True) (sh, I1, J) from ⟨I1, rfl, y1, y2, trivial⟩)
    obtain ⟨Ia, hIa⟩ : ∃ Ia, up1 I m (upz (I m) 29 2) = Ia := ⟨_, rfl⟩
    obtain ⟨I2, hI2⟩ : ∃ I2, up1 I1 m (upz (I1 m) 29 2) = I2 := ⟨_, rfl⟩
    rw [hIa, hI2] at qa
    rw [hI2] at t1
    have a29 : Ia m 29 = 2 := by rw [← hIa, up1_s, upz_s]
    have ao : ∀ a : Nat, a ≠ m → Ia a = I a := fun a h => by rw [← hIa, up1_n _ _ h]
    have am : ∀ j : Int, j ≠ 29 → Ia m j = I m j := fun j h => by rw [← hIa, up1_s, upz_n _ _ h]
    have hIaw : Ia (m + 1) 0 = p := by rw [ao _ (by omega), hI]
    have hPa : PW Ia m p F.1 := by
      intro t k x1 x2 x3 x4
      rw [ao _ (by omega)]
      exact hP t k x1 x2 x3 x4
    have q2o : ∀ a : Nat, a ≠ m + 3 → a ≠ m + 4 → a ≠ m + 13 → a ≠ m + 14 → I2 a = Ia a := by
      obtain ⟨I9, z1, z2, -⟩ := qa
      have e : I2 = I9 := congrArg (fun z : Me => z.2.1) z1
      rw [e]
      exact z2
    obtain ⟨u1, u2⟩ := q_isSum2 T hIaw hp hF hPa qa
    cases h2 : ad2 p F.1 F.2 with
    | some r =>
      obtain ⟨μ', e2, I3, rfl, w1, w2, w3⟩ := u2 r h2
      have := (q_l82 (J := J) T a29 (by omega) hk q2o).2 I3 e2 (w1 _ (by omega) (by omega) (by omega) (by omega))
      refine ⟨I3, ?_, fun a v x y z w => by rw [w1 a x y z w, ao a v], fun j hj => by rw [w1 _ (by omega) (by omega) (by omega) (by omega), am j hj]⟩
      rw [t1, this]
      congr 2
      refine tlP_congr k (fun j j0 j1 => ?_)
      have : j = 0 ∨ j = 1 := by omega
      rcases this with rfl | rfl
      · exact ⟨w3.1.1, w3.2.1⟩
      · exact ⟨w3.1.2, w3.2.2⟩
    | none =>
      obtain ⟨μ', e2, I3, rfl, w1, w2, w3⟩ := u1 h2
      have t2 := (q_l82 (J := J) T a29 (by omega) hk q2o).1 I3 e2 (w1 _ (by omega) (by omega) (by omega) (by omega))
      rw [show (2 : Int) + 1 = 3 from rfl] at t2
      have qb := PQ.up (sh := sh) (J := J) (c := 3) (A := fun _ _ => True) (show PQ sh Ia J m p F (fun _ _ => True) (sh, I3, J) from ⟨I3, rfl, w1, w2, trivial⟩)
      obtain ⟨Ib, hIb⟩ : ∃ Ib, up1 Ia m (upz (Ia m) 29 3) = Ib := ⟨_, rfl⟩
      obtain ⟨I4, hI4⟩ : ∃ I4, up1 I3 m (upz (I3 m) 29 3) = I4 := ⟨_, rfl⟩
      rw [hIb, hI4] at qb
      rw [hI4] at t2
      have b29 : Ib m 29 = 3 := by rw [← hIb, up1_s, upz_s]
      have bo : ∀ a : Nat, a ≠ m → Ib a = I a := fun a h => by rw [← hIb, up1_n _ _ h, ao a h]
      have bm : ∀ j : Int, j ≠ 29 → Ib m j = I m j := fun j h => by rw [← hIb, up1_s, upz_n _ _ h, am j h]
      have hIbw : Ib (m + 1) 0 = p := by rw [bo _ (by omega), hI]
      have hPb : PW Ib m p F.1 := by
        intro t k x1 x2 x3 x4
        rw [bo _ (by omega)]
        exact hP t k x1 x2 x3 x4
      have q4o : ∀ a : Nat, a ≠ m + 3 → a ≠ m + 4 → a ≠ m + 13 → a ≠ m + 14 → I4 a = Ib a := by
        obtain ⟨I9, z1, z2, -⟩ := qb
        have e : I4 = I9 := congrArg (fun z : Me => z.2.1) z1
        rw [e]
        exact z2
      obtain ⟨v1, v2⟩ := q_isSum3 T hIbw hp hF hPb qb
      cases h3 : ad3 p F.1 F.2 with
      | some r =>
        obtain ⟨μ', e3, I5, rfl, x1, x2, x3⟩ := v2 r h3
        have := (q_l82 (J := J) T b29 (by omega) hk q4o).2 I5 e3 (x1 _ (by omega) (by omega) (by omega) (by omega))
        refine ⟨I5, ?_, fun a v x y z w => by rw [x1 a x y z w, bo a v], fun j hj => by rw [x1 _ (by omega) (by omega) (by omega) (by omega), bm j hj]⟩
        rw [t1, t2, this]
        congr 2
        refine tlP_congr k (fun j j0 j1 => ?_)
        have : j = 0 ∨ j = 1 ∨ j = 2 := by omega
        rcases this with rfl | rfl | rfl
        · exact ⟨x3.1.1, x3.2.1⟩
        · exact ⟨x3.1.2.1, x3.2.2.1⟩
        · exact ⟨x3.1.2.2, x3.2.2.2⟩
      | none =>
        obtain ⟨μ', e3, I5, rfl, x1, x2, x3⟩ := v1 h3
        have t3 := (q_l82 (J := J) T b29 (by omega) hk q4o).1 I5 e3 (x1 _ (by omega) (by omega) (by omega) (by omega))
        rw [show (3 : Int) + 1 = 4 from rfl] at t3
        refine ⟨up1 I5 m (upz (I5 m) 29 4), ?_, fun a v x y z w => by rw [up1_n _ _ v, x1 a x y z w, bo a v], fun j hj => by rw [up1_s, upz_n _ _ hj, x1 _ (by omega) (by omega) (by omega) (by omega), bm j hj]⟩
        rw [t1, t2, t3, e_X11_powers_l82]
        have c29 : up1 I5 m (upz (I5 m) 29 4) m 29 = 4 := by rw [up1_s, upz_s]
        unfold s_X11_powers_l82_st s_X11_powers_b121
        simp (disch := omega) only [t_gI T, bsome, c29, w32_id (x := 4), w32_id (x := 3), if_pos, if_neg, ifT]
        rfl
theorem t_powers (T : TL sh m) (hW : WI (I (m + 1))) {f k : Int} (hf : i32 f) (hk : i32 k) :
    ((0 ≤ f ∧ f < I (m + 1) 1) → (0 < fD (I (m + 1)) f ∧ -1 ≤ k) → QG (s_X11_powers m f k (sh, I, J)) sh I J m (pwP (I (m + 1) 0) (fF (I (m + 1)) f) k)) ∧
    (¬(0 ≤ f ∧ f < I (m + 1) 1) → QB (s_X11_powers m f k (sh, I, J)) sh I J m 1) ∧ ((0 ≤ f ∧ f < I (m + 1) 1) → ¬(0 < fD (I (m + 1)) f ∧ -1 ≤ k) → QB (s_X11_powers m f k (sh, I, J)) sh I J m 2) := by
  obtain ⟨W, hw⟩ : ∃ W, I (m + 1) = W := ⟨_, rfl⟩
  rw [hw] at hW ⊢
  have hc := hW.c1
  have hp := hW.pp
  have hb := hp.b
  have h0 : thr I m 0 (m + 1) = W := by rw [thr_n (by omega), hw]
  have e1 := t_noF (I := thr I m 0) (J := J) T (by rw [h0]; exact hc) hf
  rw [h0] at e1
  unfold i32 at hk
  refine ⟨fun h g => ?_, fun h => ?_, fun h g => ?_⟩
  · rw [if_pos h] at e1
    have hFw := hW.f h.1 h.2
    have e2 := t_degreeOf (I := thr I m 0) (J := J) T h.1 (show f < 16 by omega)
    rw [h0] at e2
    have hFd := hFw.1
    obtain ⟨I2, e3, r3, f3⟩ := t_takesF (I := thr I m 0) (J := J) T h0 hW (r := 40) (by omega) h.1 h.2
    have hw3 : I2 (m + 1) = W := by rw [f3.w, h0]
    have hF8 := (fF_1 hFw).2
    obtain ⟨F, hF⟩ : ∃ F, fF W f = F := ⟨_, rfl⟩
    rw [hF] at r3 hF8 ⊢
    obtain ⟨I3, e4, P4, o4, w4⟩ := t_raises (J := J) T (p := W 0) (by rw [hw3]) hp hF8 (I := I2)
    have hw4 : I3 (m + 1) = W := by rw [o4 _ (by omega) (by omega) (by omega), hw3]
    have r4 : RW I3 m (W 0) 40 F.1 F.2 := ⟨(w4 40 (by omega) (by omega) (by omega)).1.trans r3.1, fun k a b => ((w4 40 (by omega) (by omega) (by omega)).2 k a (by omega)).trans (r3.2 k a b)⟩
    have e5 := t_isN (J := J) T hp (r := 40) (by omega) (by omega) r4
    rw [show ((F.1 : Int) + 1).toNat = F.1 + 1 by omega] at e5
    have k3 : HK m (thr I m 0) I3 := f3.hk.trans ⟨fun a x y => o4 a (by omega) (by omega) (by omega), fun j _ => by rw [o4 _ (by omega) (by omega) (by omega)]⟩
    unfold s_X11_powers
    simp (disch := omega) only [t_thr T, bsome, t_ck T, e1, t_if0, w32_id (x := 0), if_pos, e2, w32_id (x := fD W f), if_neg, w32_id (x := k), w32_id (x := -1), ifT]
    unfold s_X11_powers_b37
    simp (disch := omega) only [bsome, t_ck T, t_gI T, t_pI T, t_gJ T, t_pJ T, tR_deg T, tA_deg T, tU_deg T, t_if0, w32_id (x := 0), if_pos, e3, r3.1, e4, e5, ifT]
    rcases (nzI_iff (W 0) F.2 (F.1 + 1)).1 with hn | hn
    · rw [hn, if_pos (show w32 0 = 0 from rfl)]
      obtain ⟨Ia, hIa⟩ : ∃ Ia, up1 I3 m (upz (I3 m) 29 1) = Ia := ⟨_, rfl⟩
      rw [hIa]
      have ka : HK m I3 Ia := by rw [← hIa]; exact HK.own (by decide)
      obtain ⟨I', z1, z2, z3⟩ := q_powers (J := J) T (p := W 0) (I := Ia) (by rw [ka.w, hw4]) hp hF8 (by
        intro t k x1 x2 x3 x4
        rw [← hIa, up1_n _ _ (by omega)]
        exact P4 t k x1 x2 x3 x4) (k := k) (by omega) hn (by rw [← hIa, up1_s, upz_s]) (r4.ext (by rw [← hIa, up1_n _ _ (by omega)]) (by rw [← hIa, up1_n _ _ (by omega)]))
      rw [z1]
      exact ⟨_, _, rfl, (k3.trans ka).trans ⟨fun a x y => z2 a x (by omega) (by omega) (by omega) (by omega), fun j hj => z3 j (by omega)⟩, HJ.refl⟩
    · rw [hn, if_neg (show ¬ w32 1 = 0 by decide)]
      obtain ⟨Ia, hIa⟩ : ∃ Ia, up1 I3 m (upz (I3 m) 29 0) = Ia := ⟨_, rfl⟩
      rw [hIa]
      have ka : HK m I3 Ia := by rw [← hIa]; exact HK.own (by decide)
      have a29 : Ia m 29 = 0 := by rw [← hIa, up1_s, upz_s]
      have e6 := q_b121 (J := J) T a29 (by omega) (k := k) (by omega)
      rw [e_X11_powers_l82]
      unfold s_X11_powers_l82_st
      simp (disch := omega) only [t_gI T, bsome, a29, w32_id (x := 0), if_pos, e6, ifT]
      refine ⟨Ia, J, ?_, k3.trans ka, HJ.refl⟩
      unfold pwP
      rw [hn, if_pos rfl]
      show some _ = some _
      congr 2
      exact tlP_congr k (fun j j0 j1 => by omega)
  · rw [if_neg h] at e1
    unfold s_X11_powers
    simp (disch := omega) only [t_thr T, bsome, t_ck T, e1, t_if1 T, w32_id, if_neg, thr_thr, ifT]
    exact ⟨_, _, _, rfl, HK.refl, HJ.refl⟩
  · rw [if_pos h] at e1
    have hFd := (hW.f h.1 h.2).1
    have e2 := t_degreeOf (I := thr I m 0) (J := J) T h.1 (show f < 16 by omega)
    rw [h0] at e2
    have key : s_X11_powers m f k (sh, I, J) = s_X11_powers_b32 m f k m (sh, thr I m 0, J) := by
      unfold s_X11_powers
      simp (disch := omega) only [t_thr T, bsome, t_ck T, e1, t_if0, w32_id (x := 0), if_pos, e2, w32_id (x := fD W f), w32_id (x := k), w32_id (x := -1), ifT]
      by_cases h1 : fD W f = 0
      · rw [if_pos h1]
      · rw [if_neg h1, if_neg (by omega)]
    rw [key]
    unfold s_X11_powers_b32 s_X11_powers_b37
    simp (disch := omega) only [t_ck T, bsome, t_if1 T, w32_id, if_neg, thr_thr, ifT]
    exact ⟨_, _, _, rfl, HK.refl, HJ.refl⟩
end TP3
