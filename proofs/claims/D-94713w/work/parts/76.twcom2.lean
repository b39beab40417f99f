/-! the twin: common parts, quotients, the calls -/
set_option maxRecDepth 100000
theorem stF_1 (p : Int) (F : Fo) : (stF p F).1 = F.1 - stN p F := rfl
section TC2
variable {sh : Sh} {I J : Nat → Int → Int} {m : Nat} {p : Int}
theorem l25_eq (y x : Int) (μ : Me) : s_X11_commons_l25 m y x μ = (s_X11_commons_l25_st m y x μ).bind fun z => z.elim (fun s : Int × Me => s_X11_commons_l25 m y s.1 s.2) some := by
  unfold s_X11_commons_l25
  rw [whileO_eq]
theorem t_b70 (T : TL sh m) (hI : I (m + 1) 0 = p) (hp : Pp p) {a b : Fo} {y : Int} (ha : a.1 ≤ 40) (hab : b.1 ≤ a.1) (hl : b.2 0 % p ≠ 0) (hc : RW I m p 40 a.1 a.2) (hd : RW I m p 41 b.1 b.2) :
    (nzI p (dvF p a b).2 (a.1 + 1) = 1 → ∃ I', s_X11_commons_b70 m y 1 (sh, I, J) = some (.inl (0, (sh, I', J))) ∧ RW I' m p 41 b.1 b.2 ∧ RF m (fun q => 40 ≤ q ∧ q ≤ 43) I I') ∧
    (nzI p (dvF p a b).2 (a.1 + 1) = 0 → ∃ I', s_X11_commons_b70 m y 1 (sh, I, J) = some (.inl (1, (sh, I', J))) ∧ RW I' m p 40 b.1 b.2 ∧ RW I' m p 41 (stF p (dvF p a b)).1 (stF p (dvF p a b)).2 ∧ RF m (fun q => 40 ≤ q ∧ q ≤ 43) I I') := by
  obtain ⟨I1, e1, r1, q1, f1⟩ := t_divides (J := J) T hI hp (r := 40) (q := 41) (to := 43) (by omega) (by omega) (by omega) ha hab hc hd
  have hd1 := hd.keep f1 (by omega) (by omega) (by omega) (by omega)
  have f1' : RF m (fun q => 40 ≤ q ∧ q ≤ 43) I I1 := f1.mono (fun q h => by omega)
  have e2 := t_isN (J := J) T hp (r := 40) (by omega) (by omega) r1
  rw [show ((a.1 : Int) + 1).toNat = a.1 + 1 by omega] at e2
  have hpb := hp.b
  refine ⟨fun h => ?_, fun h => ?_⟩
  · unfold s_X11_commons_b70
    simp (disch := omega) only [t_ck T, bsome, e1, e2, h, w32_id, if_neg, ifT]
    exact ⟨_, rfl, hd1, f1'⟩
  · have hn : ¬ nz p (dvF p a b).1 (dvF p a b).2 := nz_not (F := dvF p a b) h
    obtain ⟨I2, e3, r3, f3⟩ := t_strips (J := J) T hp (r := 40) (F := dvF p a b) (by omega) ha r1 hn
    have hd3 := hd1.keep f3 (by omega) (by omega) (by omega) (by omega)
    have hst : (stF p (dvF p a b)).1 ≤ 40 := by
      have : (stF p (dvF p a b)).1 ≤ a.1 := Nat.sub_le _ _
      omega
    obtain ⟨I3, I4, I5, s1, s2, s3, r5, q5, f5⟩ := t_swap (J := J) T (p := p) hst (show b.1 ≤ 40 by omega) r3 hd3
    unfold s_X11_commons_b70
    simp (disch := omega) only [t_ck T, bsome, e1, e2, h, w32_id, if_pos, e3, s1, s2, s3, ifT]
    exact ⟨_, rfl, r5, q5, (f1'.trans (f3.mono (fun q h => by omega))).trans f5⟩
theorem t_gc (T : TL sh m) (hp : Pp p) {y : Int} : ∀ (n : Nat) (a b : Fo) (I : Nat → Int → Int), I (m + 1) 0 = p → a.1 ≤ 40 → b.1 ≤ 40 → min a.1 b.1 < n → a.2 0 % p ≠ 0 → b.2 0 % p ≠ 0 → RW I m p 40 a.1 a.2 → RW I m p 41 b.1 b.2 →
    ∃ I', s_X11_commons_l25 m y 1 (sh, I, J) = s_X11_commons_b128 m y (sh, I', J) ∧ RW I' m p 41 (gcS p n a b).1 (gcS p n a b).2 ∧ RF m (fun q => 40 ≤ q ∧ q ≤ 43) I I' ∧ (gcS p n a b).2 0 % p ≠ 0 ∧ (gcS p n a b).1 ≤ min a.1 b.1
  | 0, a, b, I, _, _, _, h, _, _, _, _ => by omega
  | n + 1, a, b, I, hI, ha, hb, hm, la, lb, hc, hd => by
    have hpb := hp.b
    -- the turn behind the swap
    have turn : ∀ (a b : Fo) (I1 : Nat → Int → Int), I1 (m + 1) 0 = p → a.1 ≤ 40 → b.1 ≤ a.1 → b.1 < n + 1 → a.2 0 % p ≠ 0 → b.2 0 % p ≠ 0 → RW I1 m p 40 a.1 a.2 → RW I1 m p 41 b.1 b.2 →
        s_X11_commons_l25 m y 1 (sh, I, J) = (s_X11_commons_b70 m y 1 (sh, I1, J)).bind (fun z => z.elim (fun s : Int × Me => s_X11_commons_l25 m y s.1 s.2) some) → RF m (fun q => 40 ≤ q ∧ q ≤ 43) I I1 →
        ∃ I', s_X11_commons_l25 m y 1 (sh, I, J) = s_X11_commons_b128 m y (sh, I', J) ∧ RW I' m p 41 (if nzI p (dvF p a b).2 ((dvF p a b).1 + 1) = 1 then b else gcS p n b (stF p (dvF p a b))).1 (if nzI p (dvF p a b).2 ((dvF p a b).1 + 1) = 1 then b else gcS p n b (stF p (dvF p a b))).2 ∧ RF m (fun q => 40 ≤ q ∧ q ≤ 43) I I' ∧
          (if nzI p (dvF p a b).2 ((dvF p a b).1 + 1) = 1 then b else gcS p n b (stF p (dvF p a b))).2 0 % p ≠ 0 ∧ (if nzI p (dvF p a b).2 ((dvF p a b).1 + 1) = 1 then b else gcS p n b (stF p (dvF p a b))).1 ≤ b.1 := by
      intro a b I1 hI1 ha hab hbn la lb hc hd heq f1
      obtain ⟨t1, t2⟩ := t_b70 (J := J) (y := y) T hI1 hp ha hab lb hc hd
      have hd1 : (dvF p a b).1 = a.1 := rfl
      rw [hd1]
      rcases (nzI_iff p (dvF p a b).2 (a.1 + 1)).1 with h | h
      · obtain ⟨I2, e2, r2, q2, f2⟩ := t2 h
        rw [h, if_neg (by decide)]
        have hn : ¬ nz p (dvF p a b).1 (dvF p a b).2 := nz_not (F := dvF p a b) h
        have hs : (stF p (dvF p a b)).1 < b.1 := by
          rcases dvF_short hp lb hab hn with h9 | h9
          · exact h9
          · exact absurd h9.2 id
        obtain ⟨I3, e3, r3, f3, l3, d3⟩ := t_gc T hp n b (stF p (dvF p a b)) I2 (f2.pw hI1) (by omega) (by omega) (by omega) lb (stF_lead hn) r2 q2
        refine ⟨I3, ?_, r3, (f1.trans f2).trans f3, l3, by omega⟩
        rw [heq, e2]
        exact e3
      · obtain ⟨I2, e2, r2, f2⟩ := t1 h
        rw [h, if_pos rfl]
        refine ⟨I2, ?_, r2, f1.trans f2, lb, Nat.le_refl _⟩
        rw [heq, e2]
        show s_X11_commons_l25 m y 0 (sh, I2, J) = _
        rw [l25_eq]
        unfold s_X11_commons_l25_st
        rw [if_pos (show w32 0 = 0 from rfl)]
        cases s_X11_commons_b128 m y (sh, I2, J) <;> rfl
    unfold gcS
    by_cases hab : a.1 < b.1
    · rw [if_pos hab]
      obtain ⟨I1, I2, I3, s1, s2, s3, r3, q3, f3⟩ := t_swap (J := J) T (p := p) ha hb hc hd
      obtain ⟨I', x1, x2, x3, x4, x5⟩ := turn b a I3 (f3.pw hI) hb (by omega) (by omega) lb la r3 q3 (by
        rw [l25_eq]
        unfold s_X11_commons_l25_st
        simp (disch := omega) only [bsome, t_ck T, t_gI T, t_pI T, t_gJ T, t_pJ T, tR_deg T, tA_deg T, tU_deg T, w32_id (x := 1), hc.1, hd.1, w32_id (x := (a.1 : Int)), w32_id (x := (b.1 : Int)), if_neg, s1, s2, s3]) f3
      exact ⟨I', x1, x2, x3, x4, by omega⟩
    · rw [if_neg hab]
      obtain ⟨I', x1, x2, x3, x4, x5⟩ := turn a b I hI ha (by omega) (by omega) la lb hc hd (by
        rw [l25_eq]
        unfold s_X11_commons_l25_st
        simp (disch := omega) only [bsome, t_ck T, t_gI T, t_pI T, t_gJ T, t_pJ T, tR_deg T, tA_deg T, tU_deg T, w32_id (x := 1), hc.1, hd.1, w32_id (x := (a.1 : Int)), w32_id (x := (b.1 : Int)), if_neg, if_pos]) RF.refl
      exact ⟨I', x1, x2, x3, x4, by omega⟩
theorem x_min {a b : Int} (ha : i32 a) (hb : i32 b) (μ : Me) : s_J6_min a b μ = some (min a b, μ) := by
  unfold s_J6_min
  rw [w32_id ha.1 ha.2, w32_id hb.1 hb.2]
  by_cases h : b < a
  · rw [if_pos h, show min a b = b by omega]
  · rw [if_neg h, show min a b = a by omega]
theorem t_commons (T : TL sh m) (hI : I (m + 1) 0 = p) (hp : Pp p) {F G : Fo} (hF : F.1 ≤ 20) (hG : G.1 ≤ 20) (hc : RW I m p 40 F.1 F.2) (hd : RW I m p 41 G.1 G.2) (nF : ¬ nz p F.1 F.2) (nG : ¬ nz p G.1 G.2) :
    ∃ I', s_X11_commons m (sh, I, J) = some (sh, I', J) ∧ RW I' m p 40 (cmP p F G).1 (cmP p F G).2 ∧ RF m (fun q => 40 ≤ q ∧ q ≤ 43) I I' ∧ (cmP p F G).1 ≤ 40 := by
  have hpb := hp.b
  obtain ⟨I1, e1, r1, f1⟩ := t_strips (J := J) T hp (r := 40) (by omega) (by omega) hc nF
  have hd1 := hd.keep f1 (by omega) (by omega) (by omega) (by omega)
  obtain ⟨I2, e2, r2, f2⟩ := t_strips (J := J) T hp (r := 41) (by omega) (by omega) hd1 nG
  have r1' := r1.keep f2 (by omega) (by omega) (by omega) (by have := stF_1 p F; omega)
  have nf := stN_le p F
  have ng := stN_le p G
  have sf := stF_1 p F
  have sg := stF_1 p G
  have hI2 := f2.pw (f1.pw hI)
  obtain ⟨I3, e3, r3, f3, l3, d3⟩ := t_gc (J := J) (y := (yyP p F G : Int)) T hp 50 (stF p F) (stF p G) I2 hI2 (by omega) (by omega) (by omega) (stF_lead nF) (stF_lead nG) r1' r2
  unfold cmP gcP
  obtain ⟨B, hB⟩ : ∃ B, gcS p 50 (stF p F) (stF p G) = B := ⟨_, rfl⟩
  rw [hB] at r3 l3 d3 ⊢
  have hy : ((yyP p F G : Nat) : Int) = min (min (stN p F : Int) 99) (stN p G) := by
    unfold yyP
    omega
  obtain ⟨y, hyy⟩ : ∃ y, yyP p F G = y := ⟨_, rfl⟩
  rw [hyy] at hy e3 ⊢
  have hyl : y + B.1 ≤ 40 := by omega
  have hI3 := f3.pw hI2
  have hb0 := emod_b hp (B.2 0)
  have e4 := t_inverse (J := J) T hI3 hp hb0
  obtain ⟨s, hs⟩ : ∃ s, ivS p (B.2 0 % p) = s := ⟨_, rfl⟩
  have hsm : s % p = s := by rw [← hs]; exact ivS_m _
  rw [hs] at e4
  obtain ⟨I4, e5, r5, f5⟩ := t_clearsR (I := I3) (J := J) (p := p) T (r := 40) (d := (B.1 : Int) + y) (by omega) (by omega) (by omega) (by omega)
  have o0 := r3.2 0 (by omega) (by omega)
  have r3' := r3.keep f5 (by omega) (by omega) (by omega) (by omega)
  have hI4 := f5.pw hI3
  have fin : ∃ I', s_X11_commons_l158 m y s 0 (sh, I4, J) = some (sh, I', J) ∧ RW I' m p 40 (cmF p B y).1 (cmF p B y).2 ∧ RF m (fun q => q = 40) I4 I' := by
    unfold s_X11_commons_l158
    refine ex_g (fun I' => ((sh, I', J) : Me)) (whileO_for (B.1 + 1)
      (fun i z => ∃ I', z = ((i : Int), ((sh, I', J) : Me)) ∧ I' (m + 3) 40 = (B.1 : Int) + y ∧ (∀ k : Int, 0 ≤ k → k ≤ (B.1 : Int) + y → k < i + y → I' (m + 4) (41 * 40 + k) = cl B.1 B.2 (k - y) * s % p) ∧ (∀ k : Int, i + y ≤ k → k ≤ (B.1 : Int) + y → I' (m + 4) (41 * 40 + k) = 0) ∧ RF m (fun q => q = 40) I4 I')
      _ ?_ ?_ _ ?_)
    · rintro i z hi ⟨I5, rfl, a1, a2, a3, a4⟩
      have b1 := r3'.keep a4 (by omega) (by omega) (by omega) (by omega)
      have b2 := b1.2 i (by omega) (by omega)
      have hI5 := a4.pw hI4
      have e6 := t_timesM (J := J) T hI5 hp s (B.2 i)
      rw [hsm] at e6
      obtain ⟨I6, e7, k1, k2, k3, k4⟩ := t_putR (I := I5) (J := J) T (r := 40) (k := i + y) (v := s * B.2 i % p) (by omega) (by omega) (by omega) (by omega)
      refine ⟨((i : Int) + 1, (sh, I6, J)), ?_, I6, by simp, by rw [k2]; exact a1, fun k x y2 z => ?_, fun k x y2 => ?_, a4.trans k4⟩
      · unfold s_X11_commons_l158_st
        dsimp only
        simp (disch := omega) only [bsome, t_ck T, t_gI T, t_pI T, t_gJ T, t_pJ T, tR_deg T, tA_deg T, tU_deg T, b1.1, w32_id, if_neg, t_of T, b2, e6, e7, ifT]
      · by_cases e : k = i + y
        · rw [e, k1, show (i : Int) + y - y = i by omega, cl_in (by omega) (by omega), Int.mul_comm]
        · rw [k3 _ (by omega)]
          exact a2 k x y2 (by omega)
      · rw [k3 _ (by omega)]
        exact a3 k (by omega) y2
    · rintro z ⟨I5, rfl, a1, a2, a3, a4⟩
      have b1 := r3'.keep a4 (by omega) (by omega) (by omega) (by omega)
      unfold s_X11_commons_l158_st
      dsimp only
      simp (disch := omega) only [bsome, t_ck T, t_gI T, t_pI T, t_gJ T, t_pJ T, tR_deg T, tA_deg T, tU_deg T, b1.1, w32_id, if_pos, ifT]
      refine ⟨_, rfl, I5, rfl, ⟨a1.trans ?_, fun k x y2 => ?_⟩, a4⟩
      · show _ = ((B.1 + y : Nat) : Int)
        omega
      · have y3 : k ≤ (B.1 : Int) + y := by
          have : ((cmF p B y).1 : Int) = B.1 + y := by
            show ((B.1 + y : Nat) : Int) = _
            omega
          omega
        rw [a2 k x y3 (by omega)]
        show _ = cl B.1 B.2 (k - y) * ivS p (B.2 0 % p) % p
        rw [hs]
    · refine ⟨I4, rfl, r5.1, fun k x y2 z => ?_, fun k x y2 => ?_, RF.refl⟩
      · rw [r5.2 k x y2, show cl B.1 B.2 (k - y) = 0 from if_neg (by omega), Int.zero_mul]
      · rw [r5.2 k (by omega) y2, Int.zero_emod]
  obtain ⟨I5, e6, r6, f6⟩ := fin
  refine ⟨I5, ?_, r6, ((((f1.mono (fun q h => by omega)).trans (f2.mono (fun q h => by omega))).trans f3).trans (f5.mono (fun q h => by omega))).trans (f6.mono (fun q h => by omega)), by show B.1 + y ≤ 40; omega⟩
  unfold s_X11_commons
  simp (disch := omega) only [t_ck T, bsome, e1]
  rw [x_min ⟨by omega, by omega⟩ ⟨by omega, by omega⟩, bsome]
  simp (disch := omega) only [t_ck T, bsome, e2]
  rw [x_min ⟨by omega, by omega⟩ ⟨by omega, by omega⟩, bsome]
  dsimp only
  rw [← hy, e3]
  unfold s_X11_commons_b128
  simp (disch := omega) only [bsome, t_ck T, t_gI T, t_pI T, t_gJ T, t_pJ T, tR_deg T, tA_deg T, tU_deg T, t_of T, o0, e4, r3.1, e5, e6]
theorem t_hasQuotient (T : TL sh m) (hI : I (m + 1) 0 = p) (hp : Pp p) {F G : Fo} (hF : F.1 ≤ 20) (hG : G.1 ≤ 20) (hc : RW I m p 40 F.1 F.2) (hd : RW I m p 41 G.1 G.2) :
    (qtP p F G = none → ∃ I', s_X11_hasQuotient m (sh, I, J) = some (0, (sh, I', J)) ∧ RF m (fun q => 40 ≤ q ∧ q ≤ 43) I I') ∧
    ∀ q, qtP p F G = some q → q.1 ≤ 20 ∧ ∃ I', s_X11_hasQuotient m (sh, I, J) = some (1, (sh, I', J)) ∧ RW I' m p 42 q.1 q.2 ∧ RF m (fun q => 40 ≤ q ∧ q ≤ 43) I I' := by
  have hpb := hp.b
  have e1 := t_isN (J := J) T hp (r := 41) (by omega) (by omega) hd
  rw [show ((G.1 : Int) + 1).toNat = G.1 + 1 by omega] at e1
  have e2 := t_isN (J := J) T hp (r := 40) (by omega) (by omega) hc
  rw [show ((F.1 : Int) + 1).toNat = F.1 + 1 by omega] at e2
  unfold qtP s_X11_hasQuotient
  rw [t_ck T, bsome, e1, bsome]
  dsimp only
  rcases (nzI_iff p G.2 (G.1 + 1)).1 with hg | hg
  · rw [hg, if_pos (show w32 0 = 0 from rfl)]
    simp (maxSteps := 3000000) (disch := omega) only [bsome, t_ck T, t_gI T, t_pI T, t_gJ T, t_pJ T, tR_deg T, tA_deg T, tU_deg T, hc.1, hd.1, w32_id (x := (F.1 : Int)), w32_id (x := (G.1 : Int)), e2]
    by_cases hfg : F.1 < G.1
    · rw [if_neg (show ¬ (G.1 : Int) ≤ F.1 by omega), if_pos (Or.inr hfg)]
      exact ⟨fun _ => ⟨_, rfl, RF.refl⟩, fun q hq => by cases hq⟩
    rw [if_pos (show (G.1 : Int) ≤ F.1 by omega), if_neg (show ¬((0 : Int) = 1 ∨ F.1 < G.1) by omega)]
    rcases (nzI_iff p F.2 (F.1 + 1)).1 with hf | hf
    · rw [hf, if_pos (show w32 0 = 0 from rfl), if_neg (show ¬ (0 : Int) = 1 by decide)]
      have nF := nz_not hf
      have nG := nz_not hg
      obtain ⟨I1, s1, r1, f1⟩ := t_strips (J := J) T hp (r := 40) (by omega) (by omega) hc nF
      have hd1 := hd.keep f1 (by omega) (by omega) (by omega) (by omega)
      obtain ⟨I2, s2, r2, f2⟩ := t_strips (J := J) T hp (r := 41) (by omega) (by omega) hd1 nG
      have r1' := r1.keep f2 (by omega) (by omega) (by omega) (by have := stF_1 p F; omega)
      have f12 : RF m (fun q => 40 ≤ q ∧ q ≤ 43) I I2 := (f1.mono (fun q h => by omega)).trans (f2.mono (fun q h => by omega))
      have nf := stN_le p F
      have ng := stN_le p G
      have sf := stF_1 p F
      have sg := stF_1 p G
      have hI2 := f2.pw (f1.pw hI)
      simp (maxSteps := 3000000) (disch := omega) only [bsome, t_ck T, t_gI T, t_pI T, t_gJ T, t_pJ T, tR_deg T, tA_deg T, tU_deg T, s1, s2, w32_id (x := (stN p F : Int) - stN p G), r1'.1, r2.1, w32_id (x := ((stF p F).1 : Int)), w32_id (x := ((stF p G).1 : Int))]
      by_cases h1 : stN p F < stN p G
      · rw [if_pos (show (stN p F : Int) - stN p G < 0 by omega), if_pos (Or.inl h1)]
        exact ⟨fun _ => ⟨_, rfl, f12⟩, fun q hq => by cases hq⟩
      rw [if_neg (show ¬ (stN p F : Int) - stN p G < 0 by omega)]
      by_cases h2 : (stF p F).1 < (stF p G).1
      · rw [if_neg (show ¬ ((stF p G).1 : Int) ≤ (stF p F).1 by omega), if_pos (Or.inr h2)]
        exact ⟨fun _ => ⟨_, rfl, f12⟩, fun q hq => by cases hq⟩
      rw [if_pos (show ((stF p G).1 : Int) ≤ (stF p F).1 by omega), if_neg (show ¬(stN p F < stN p G ∨ (stF p F).1 < (stF p G).1) by omega)]
      obtain ⟨I3, e3, r3, q3, f3⟩ := t_divides (J := J) T hI2 hp (r := 40) (q := 41) (to := 43) (by omega) (by omega) (by omega) (by omega) (by omega) r1' r2
      have e4 := t_isN (J := J) T hp (r := 40) (by omega) (by omega) r3
      rw [show (((stF p F).1 : Int) + 1).toNat = (stF p F).1 + 1 by omega] at e4
      have f13 := f12.trans (f3.mono (fun q h => (show 40 ≤ q ∧ q ≤ 43 by omega)))
      simp (maxSteps := 3000000) (disch := omega) only [t_ck T, bsome, e3, e4]
      rcases (nzI_iff p (dvF p (stF p F) (stF p G)).2 ((stF p F).1 + 1)).1 with h3 | h3
      · rw [h3, if_pos (show w32 0 = 0 from rfl), if_neg (show ¬ (0 : Int) = 1 by decide)]
        exact ⟨fun _ => ⟨_, rfl, f13⟩, fun q hq => by cases hq⟩
      · rw [h3, if_neg (show ¬ w32 1 = 0 by decide), if_pos rfl]
        refine ⟨fun hq => (by cases hq), fun q hq => ?_⟩
        rw [← Option.some.inj hq]
        obtain ⟨I4, e5, r5, f5⟩ := t_clearsR (I := I3) (J := J) (p := p) T (r := 42) (d := (F.1 : Int) - G.1) (by omega) (by omega) (by omega) (by omega)
        obtain ⟨y, hy⟩ : ∃ y : Nat, stN p F - stN p G = y := ⟨_, rfl⟩
        obtain ⟨e, he⟩ : ∃ e : Nat, (stF p F).1 - (stF p G).1 = e := ⟨_, rfl⟩
        have q5 := q3.keep f5 (by omega) (by omega) (by omega) (by omega)
        rw [show ((stF p F).1 : Int) - (stF p G).1 = (e : Int) by omega] at q5
        rw [hy, he]
        have fin : ∃ I', s_X11_hasQuotient_l129 m y 0 (sh, I4, J) = some (1, (sh, I', J)) ∧ RW I' m p 42 ((F.1 - G.1 : Nat) : Int) (fun k => cl e (dvQ p (stF p F) (stF p G)) (k - y)) ∧ RF m (fun q => q = 42) I4 I' := by
          unfold s_X11_hasQuotient_l129
          refine ex_g (fun I' => ((1 : Int), ((sh, I', J) : Me))) (whileO_for (e + 1)
            (fun i z => ∃ I', z = ((i : Int), ((sh, I', J) : Me)) ∧ I' (m + 3) 42 = (F.1 : Int) - G.1 ∧ (∀ k : Int, 0 ≤ k → k ≤ (F.1 : Int) - G.1 → k < i + y → I' (m + 4) (41 * 42 + k) = cl e (dvQ p (stF p F) (stF p G)) (k - y) % p) ∧ (∀ k : Int, i + y ≤ k → k ≤ (F.1 : Int) - G.1 → I' (m + 4) (41 * 42 + k) = 0) ∧ RF m (fun q => q = 42) I4 I')
            _ ?_ ?_ _ ?_)
          · rintro i z hi ⟨I5, rfl, a1, a2, a3, a4⟩
            have b1 := q5.keep a4 (by omega) (by omega) (by omega) (by omega)
            have b2 := b1.2 i (by omega) (by omega)
            obtain ⟨I6, e7, k1, k2, k3, k4⟩ := t_putR (I := I5) (J := J) T (r := 42) (k := i + y) (v := dvQ p (stF p F) (stF p G) i % p) (by omega) (by omega) (by omega) (by omega)
            refine ⟨((i : Int) + 1, (sh, I6, J)), ?_, I6, by simp, by rw [k2]; exact a1, fun k x y2 z => ?_, fun k x y2 => ?_, a4.trans k4⟩
            · unfold s_X11_hasQuotient_l129_st
              dsimp only
              simp (maxSteps := 3000000) (disch := omega) only [bsome, t_ck T, t_gI T, t_pI T, t_gJ T, t_pJ T, tR_deg T, tA_deg T, tU_deg T, b1.1, w32_id, if_neg, t_of T, b2, e7]
            · by_cases e : k = i + y
              · rw [e, k1, show (i : Int) + y - y = i by omega, cl_in (by omega) (by omega)]
              · rw [k3 _ (by omega)]
                exact a2 k x y2 (by omega)
            · rw [k3 _ (by omega)]
              exact a3 k (by omega) y2
          · rintro z ⟨I5, rfl, a1, a2, a3, a4⟩
            have b1 := q5.keep a4 (by omega) (by omega) (by omega) (by omega)
            unfold s_X11_hasQuotient_l129_st
            dsimp only
            simp (maxSteps := 3000000) (disch := omega) only [bsome, t_ck T, t_gI T, t_pI T, t_gJ T, t_pJ T, tR_deg T, tA_deg T, tU_deg T, b1.1, w32_id, if_pos]
            refine ⟨_, rfl, I5, rfl, ⟨a1.trans (by omega), fun k x y2 => ?_⟩, a4⟩
            by_cases h9 : k < ((e + 1 : Nat) : Int) + y
            · exact a2 k x (by omega) h9
            · rw [a3 k (by omega) (by omega)]
              show _ = cl e (dvQ p (stF p F) (stF p G)) (k - y) % p
              rw [show cl (e : Int) (dvQ p (stF p F) (stF p G)) (k - y) = 0 from if_neg (by omega), Int.zero_emod]
          · refine ⟨I4, rfl, r5.1, fun k x y2 z => ?_, fun k x y2 => ?_, RF.refl⟩
            · rw [r5.2 k x y2, show cl (e : Int) (dvQ p (stF p F) (stF p G)) (k - y) = 0 from if_neg (by omega)]
            · rw [r5.2 k (by omega) y2, Int.zero_emod]
        obtain ⟨I5, e6, r6, f6⟩ := fin
        refine ⟨by show F.1 - G.1 ≤ 20; omega, I5, ?_, r6, (f13.trans (f5.mono (fun q h => by omega))).trans (f6.mono (fun q h => by omega))⟩
        rw [e5, bsome, show (stN p F : Int) - stN p G = y by omega]
        exact e6
    · rw [hf, if_neg (show ¬ w32 1 = 0 by decide), if_pos rfl]
      obtain ⟨I4, e5, r5, f5⟩ := t_clearsR (I := I) (J := J) (p := p) T (r := 42) (d := (F.1 : Int) - G.1) (by omega) (by omega) (by omega) (by omega)
      refine ⟨fun hq => (by cases hq), fun q hq => ?_⟩
      rw [← Option.some.inj hq]
      refine ⟨by show F.1 - G.1 ≤ 20; omega, I4, ?_, ?_, f5.mono (fun q h => by omega)⟩
      · rw [e5]
        rfl
      · show RW I4 m p 42 ((F.1 - G.1 : Nat) : Int) _
        rw [show ((F.1 - G.1 : Nat) : Int) = F.1 - G.1 by omega]
        exact r5
  · rw [hg, if_neg (show ¬ w32 1 = 0 by decide), if_pos (Or.inl rfl)]
    exact ⟨fun _ => ⟨_, rfl, RF.refl⟩, fun q hq => by cases hq⟩
end TC2
