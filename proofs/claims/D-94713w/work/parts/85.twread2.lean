/-! the twin: the reader, signs -/
set_option maxRecDepth 100000
theorem okT_st {n deep a it st : Int} {r : TT × Int × Int} (h : okT n deep a it r) (hd : 0 ≤ deep) (hs : st ≤ 4 * it) : st + (pst r.1).length ≤ 4 * r.2.2 + 3 := by
  obtain ⟨h1, h2, h3, h4, h5⟩ := h
  have l := pst_len r.1.1 r.1.2
  have l1 : ((pst r.1).length : Int) + 1 = 2 * lvs r.1 + mis r.1 := by exact_mod_cast l
  have l6 : (6 - deep) * (lvs r.1 : Int) ≤ 6 * lvs r.1 := Int.mul_le_mul_of_nonneg_right (by omega) (by omega)
  omega
section TR2
variable {sh : Sh} {I J : Nat → Int → Int} {m : Nat}
theorem t_l161 (T : TL sh m) {n : Int} {B : Int → Int} (hn : n ≤ 400) (hB : okB B) {F : Nat → Nat → Me → Option (Int × Me)} {b deep it st : Int} : ∀ (k : Nat) (x : Int) (I : Nat → Int → Int), n - x < k → b ≤ x → 0 ≤ b → x ≤ n → RS I m n B x deep it st b →
    ∃ I' y, s_X11_readUnit_l161 F m (sh, I, J) = s_X11_readUnit_b185 F m (sh, I', J) ∧ RS I' m n B y deep it st b ∧ FR m I I' st ∧ x ≤ y ∧ y ≤ n ∧ (y = x ↔ ¬(x < n ∧ 97 ≤ B x ∧ B x ≤ 122)) ∧ (y = x + 1 ↔ ((x < n ∧ 97 ≤ B x ∧ B x ≤ 122) ∧ ¬(x + 1 < n ∧ 97 ≤ B (x + 1) ∧ B (x + 1) ≤ 122)))
  | 0, x, I, h, _, _, h1, _ => by omega
  | k + 1, x, I, h, h0, hb0, h1, hR => by
    have e1 := t_isAt (J := J) T hn hB hR (by omega) h1 (lo := 97) (hi := 122) ⟨by omega, by omega⟩ ⟨by omega, by omega⟩
    rw [e_X11_readUnit_l161]
    unfold s_X11_readUnit_l161_st
    rw [t_ck T, bsome, e1, bsome]
    dsimp only
    by_cases hc : x < n ∧ 97 ≤ B x ∧ B x ≤ 122
    · rw [if_pos hc, if_neg (show ¬ w32 1 = 0 by decide), t_gI T, bsome, t_pI T, bsome, hR.1.1]
      obtain ⟨I', y, e2, r2, f2, y1, y2, y3, y4⟩ := t_l161 T hn hB k (x + 1) _ (by omega) (by omega) hb0 (by omega) (hR.w12 (x + 1))
      refine ⟨I', y, e2, r2, (FR.own (Or.inl rfl)).le2 (Int.le_refl _) f2, by omega, y2, ⟨fun g => by omega, fun g => absurd hc g⟩, ⟨fun g => ⟨hc, y3.mp g⟩, fun g => y3.mpr g.2⟩⟩
    · rw [if_neg hc, if_pos (show w32 0 = 0 from rfl)]
      refine ⟨I, x, ?_, hR, FR.refl, Int.le_refl _, h1, ⟨fun _ => hc, fun _ => rfl⟩, ⟨fun g => by omega, fun g => absurd g.1 hc⟩⟩
      cases s_X11_readUnit_b185 F m (sh, I, J) <;> rfl
theorem t_unit (T : TL sh m) {n : Int} {B : Int → Int} (hn : n ≤ 400) (hB : okB B) {f : Nat} (IH : RdOk sh J m n B f) {I : Nat → Int → Int} {a deep it st bg : Int} (hR : RS I m n B a deep it st bg) (h0 : 0 ≤ a) (h1 : a ≤ n) (hd : 0 ≤ deep ∧ deep ≤ 6) (hi : 0 ≤ it ∧ it ≤ 40) (hs : 0 ≤ st ∧ st ≤ 4 * it) (hf : 4 * (6 - deep) + 2 ≤ f + 1) :
    (∀ r, unR B n (prR false B n f) a deep it = .inr r → ∃ I' bg', s_X11_readUnit (s_rd f) m (sh, I, J) = some (1, (sh, I', J)) ∧ RS I' m n B r.2.1 deep r.2.2 (st + (pst r.1).length) bg' ∧ DRt (I' (m + 1)) st (pst r.1) ∧ FR m I I' st) ∧
    (∀ pl, unR B n (prR false B n f) a deep it = .inl pl → ∃ I', s_X11_readUnit (s_rd f) m (sh, I, J) = some (0, (sh, I', J)) ∧ I' m 14 = pl ∧ FR m I I' st) := by
  have z1 : ¬ w32 1 = 0 := by decide
  have z0 : w32 0 = 0 := rfl
  have s := skS_b (B := B) h0 h1 hn
  obtain ⟨b, hb⟩ : ∃ b, skS B n a = b := ⟨_, rfl⟩
  rw [hb] at s
  have hbb := skS_id s.2.2
  unfold unR
  rw [hb]
  obtain ⟨m1, m2⟩ := t_has (J := J) T hn hB hR h0 h1 (c := 45) ⟨by omega, by omega⟩
  rw [hb] at m1 m2
  by_cases c45 : b < n ∧ B b = 45
  · rw [if_pos c45]
    obtain ⟨I1, e1, r1, f1⟩ := m2 c45
    obtain ⟨d1, d2⟩ := t_deeper (J := J) T r1 hd
    by_cases h6 : deep = 6
    · rw [if_pos h6]
      refine ⟨fun r hr => (by cases hr), fun pl hr => ⟨I1, ?_, by rw [r1.1.2.2]; exact Sum.inl.inj hr, f1⟩⟩
      unfold s_X11_readUnit
      rw [t_ck T, bsome, e1, bsome]
      dsimp only
      rw [if_neg z1, t_ck T, bsome, d1 h6, bsome]
      dsimp only
      rw [if_pos z0]
    rw [if_neg h6]
    obtain ⟨I2, e2, r2, f2⟩ := d2 h6
    obtain ⟨g1, g2⟩ := IH 2 I2 (b + 1) (deep + 1) it st b r2 (by omega) (by omega) (by omega) hi hs (Or.inr (Or.inr ⟨rfl, by omega⟩)) (fun h => absurd h (by decide))
    have ok := prR_ok (hard := false) (B := B) hn f 2 (b + 1) (deep + 1) it (by omega) (by omega) (by omega) hi
    have run : ∀ z, s_rd f 2 m (sh, I2, J) = some z → s_X11_readUnit (s_rd f) m (sh, I, J) = if w32 z.1 = 0 then some (0, z.2) else (gI z.2 9 m 15).bind fun v64 => (pI z.2 9 m 15 (v64 - 1)).bind fun m65 => (ck m65 9 m).bind fun _ => (s_X11_emits m 5 0 m65).bind fun q66 => (bz2 q66.1).bind fun _ => some (q66.1, q66.2) := by
      intro z hz
      unfold s_X11_readUnit
      rw [t_ck T, bsome, e1, bsome]
      dsimp only
      rw [if_neg z1, t_ck T, bsome, e2, bsome]
      dsimp only
      rw [if_neg z1, t_ck T, bsome, hz, bsome]
    cases hq : prR false B n f 2 (b + 1) (deep + 1) it with
    | inl pl =>
      obtain ⟨I3, e3, b3, f3⟩ := g2 pl hq
      refine ⟨fun r hr => (by cases hr), fun pl' hr => ⟨I3, ?_, by rw [b3]; exact Sum.inl.inj hr, (f1.le2 (Int.le_refl _) f2).le2 (Int.le_refl _) f3⟩⟩
      rw [run _ e3, if_pos z0]
    | inr q =>
      obtain ⟨I3, bg3, e3, r3, D3, f3⟩ := g1 q hq
      have okq := ok q hq
      have hst := okT_st (st := st) okq (by omega) hs.2
      have hq5 := okq.2.2.2.1
      have r4 := r3.w15 (deep + 1 - 1)
      rw [show deep + 1 - 1 = deep by omega] at r4
      have f4 := (f1.le2 (Int.le_refl _) f2).le2 (Int.le_refl _) (f3.le2 (Int.le_refl _) (FR.own (m := m) (k := 15) (v := deep) (Or.inr (Or.inr (Or.inl rfl)))))
      obtain ⟨I5, e5, r5, o5, v5, f5⟩ := t_emits (J := J) T r4 (o := 5) (v := 0) (by omega) (by omega)
      have D4 : DRt (up1 I3 m (upz (I3 m) 15 deep) (m + 1)) st (pst q.1) := by rw [up1_n _ _ (by omega)]; exact D3
      refine ⟨fun r hr => ?_, fun pl hr => (by cases hr)⟩
      rw [← Sum.inr.inj (show (Sum.inr (tMi q.1, q.2.1, q.2.2) : PR) = .inr r from hr)]
      have hpm : pst (tMi q.1) = pst q.1 ++ [(5, 0)] := rfl
      refine ⟨I5, bg3, ?_, ?_, ?_, f4.le2 (Int.le_refl _) (f5.le (by omega))⟩
      · rw [run _ e3]
        dsimp only
        rw [if_neg z1, t_gI T, bsome, r3.2.1.1, show deep + 1 - 1 = deep by omega, t_pI T, bsome, t_ck T, bsome, e5, bsome]
        rfl
      · rw [hpm]
        have : st + ((pst q.1 ++ [((5 : Int), (0 : Int))]).length : Int) = st + (pst q.1).length + 1 := by
          simp
          omega
        rw [this]
        exact r5
      · rw [hpm]
        exact DRt_app.mpr ⟨DRt_eq D4 (fun j hj => f5.2.2 j hj), ⟨o5, v5⟩, trivial⟩
  rw [if_neg c45]
  obtain ⟨I1, e1, r1, f1⟩ := m1 c45
  obtain ⟨p1, p2⟩ := t_has (J := J) T hn hB r1 (by omega) s.2.1 (c := 40) ⟨by omega, by omega⟩
  rw [hbb] at p1 p2
  by_cases c40 : b < n ∧ B b = 40
  · rw [if_pos c40]
    obtain ⟨I2, e2, r2, f2⟩ := p2 c40
    obtain ⟨d1, d2⟩ := t_deeper (J := J) T r2 hd
    have f12 := f1.le2 (Int.le_refl _) f2
    by_cases h6 : deep = 6
    · rw [if_pos h6]
      refine ⟨fun r hr => (by cases hr), fun pl hr => ⟨I2, ?_, by rw [r2.1.2.2]; exact Sum.inl.inj hr, f12⟩⟩
      unfold s_X11_readUnit
      rw [t_ck T, bsome, e1, bsome]
      dsimp only
      rw [if_pos z0, t_ck T, bsome, e2, bsome]
      dsimp only
      rw [if_neg z1, t_ck T, bsome, d1 h6, bsome]
      dsimp only
      rw [if_pos z0]
    rw [if_neg h6]
    obtain ⟨I3, e3, r3, f3⟩ := d2 h6
    have f13 := f12.le2 (Int.le_refl _) f3
    obtain ⟨g1, g2⟩ := IH 0 I3 (b + 1) (deep + 1) it st b r3 (by omega) (by omega) (by omega) hi hs (Or.inl ⟨rfl, by omega⟩) (fun h => absurd h (by decide))
    have ok := prR_ok (hard := false) (B := B) hn f 0 (b + 1) (deep + 1) it (by omega) (by omega) (by omega) hi
    have run : ∀ z, s_rd f 0 m (sh, I3, J) = some z → s_X11_readUnit (s_rd f) m (sh, I, J) = if w32 z.1 = 0 then some (0, z.2) else (gI z.2 9 m 15).bind fun v53 => (pI z.2 9 m 15 (v53 - 1)).bind fun m54 => (ck m54 9 m).bind fun _ => (s_X11_has m 41 m54).bind fun q55 => (bz2 q55.1).bind fun _ => some (q55.1, q55.2) := by
      intro z hz
      unfold s_X11_readUnit
      rw [t_ck T, bsome, e1, bsome]
      dsimp only
      rw [if_pos z0, t_ck T, bsome, e2, bsome]
      dsimp only
      rw [if_neg z1, t_ck T, bsome, e3, bsome]
      dsimp only
      rw [if_neg z1, t_ck T, bsome, hz, bsome]
    cases hq : prR false B n f 0 (b + 1) (deep + 1) it with
    | inl pl =>
      obtain ⟨I4, e4, b4, f4⟩ := g2 pl hq
      refine ⟨fun r hr => (by cases hr), fun pl' hr => ⟨I4, ?_, by rw [b4]; exact Sum.inl.inj hr, f13.le2 (Int.le_refl _) f4⟩⟩
      rw [run _ e4, if_pos z0]
    | inr q =>
      obtain ⟨I4, bg4, e4, r4, D4, f4⟩ := g1 q hq
      obtain ⟨q1, ⟨q2, q3⟩, q4, q5, q6⟩ := ok q hq
      have r5 := r4.w15 (deep + 1 - 1)
      rw [show deep + 1 - 1 = deep by omega] at r5
      have f15 := f13.le2 (Int.le_refl _) (f4.le2 (Int.le_refl _) (FR.own (m := m) (k := 15) (v := deep) (Or.inr (Or.inr (Or.inl rfl)))))
      have D5 : DRt (up1 I4 m (upz (I4 m) 15 deep) (m + 1)) st (pst q.1) := by rw [up1_n _ _ (by omega)]; exact D4
      obtain ⟨x1, x2⟩ := t_has (J := J) T hn hB r5 (by omega) q3 (c := 41) ⟨by omega, by omega⟩
      have run2 : ∀ z, s_X11_has m 41 (sh, up1 I4 m (upz (I4 m) 15 deep), J) = some z → (z.1 = 0 ∨ z.1 = 1) → s_X11_readUnit (s_rd f) m (sh, I, J) = some z := by
        intro z hz hz1
        rw [run _ e4]
        dsimp only
        rw [if_neg z1, t_gI T, bsome, r4.2.1.1, show deep + 1 - 1 = deep by omega, t_pI T, bsome, t_ck T, bsome, hz, bsome, bz2_m hz1, bsome]
      show (∀ r, (if skS B n q.2.1 < n ∧ B (skS B n q.2.1) = 41 then (.inr (q.1, skS B n q.2.1 + 1, q.2.2) : PR) else .inl (skS B n q.2.1)) = .inr r → _) ∧ ∀ pl, (if skS B n q.2.1 < n ∧ B (skS B n q.2.1) = 41 then (.inr (q.1, skS B n q.2.1 + 1, q.2.2) : PR) else .inl (skS B n q.2.1)) = .inl pl → _
      by_cases c41 : skS B n q.2.1 < n ∧ B (skS B n q.2.1) = 41
      · rw [if_pos c41]
        obtain ⟨I6, e6, r6, f6⟩ := x2 c41
        refine ⟨fun r hr => ?_, fun pl hr => (by cases hr)⟩
        rw [← Sum.inr.inj hr]
        exact ⟨I6, _, run2 _ e6 (Or.inr rfl), r6, DRt_eq D5 (fun j hj => f6.2.2 j (by omega)), f15.le2 (Int.le_refl _) (f6.le (by omega))⟩
      · rw [if_neg c41]
        obtain ⟨I6, e6, r6, f6⟩ := x1 c41
        refine ⟨fun r hr => (by cases hr), fun pl hr => ?_⟩
        exact ⟨I6, run2 _ e6 (Or.inl rfl), by rw [r6.1.2.2]; exact Sum.inl.inj hr, f15.le2 (Int.le_refl _) (f6.le (by omega))⟩
  rw [if_neg c40]
  obtain ⟨I2, e2, r2, f2⟩ := p1 c40
  have f12 := f1.le2 (Int.le_refl _) f2
  obtain ⟨p3, p4⟩ := t_has (J := J) T hn hB r2 (by omega) s.2.1 (c := 91) ⟨by omega, by omega⟩
  rw [hbb] at p3 p4
  by_cases c91 : b < n ∧ B b = 91
  · rw [if_pos c91]
    obtain ⟨I3, e3, r3, f3⟩ := p4 c91
    have f13 := f12.le2 (Int.le_refl _) f3
    obtain ⟨g1, g2⟩ := IH 3 I3 (b + 1) deep it st b r3 (by omega) (by omega) hd hi hs (Or.inr (Or.inl (Or.inr ⟨rfl, by omega⟩))) (fun _ => by omega)
    have run : ∀ z, s_rd f 3 m (sh, I3, J) = some z → (z.1 = 0 ∨ z.1 = 1) → s_X11_readUnit (s_rd f) m (sh, I, J) = some z := by
      intro z hz hz1
      unfold s_X11_readUnit
      rw [t_ck T, bsome, e1, bsome]
      dsimp only
      rw [if_pos z0, t_ck T, bsome, e2, bsome]
      dsimp only
      rw [if_pos z0, t_ck T, bsome, e3, bsome]
      dsimp only
      rw [if_neg z1, t_ck T, bsome, hz, bsome, bz2_m hz1, bsome]
    refine ⟨fun r hr => ?_, fun pl hr => ?_⟩
    · obtain ⟨I4, bg4, e4, r4, D4, f4⟩ := g1 r hr
      exact ⟨I4, bg4, run _ e4 (Or.inr rfl), r4, D4, f13.le2 (Int.le_refl _) f4⟩
    · obtain ⟨I4, e4, b4, f4⟩ := g2 pl hr
      exact ⟨I4, run _ e4 (Or.inl rfl), b4, f13.le2 (Int.le_refl _) f4⟩
  rw [if_neg c91]
  obtain ⟨I3, e3, r3, f3⟩ := p3 c91
  have f13 := f12.le2 (Int.le_refl _) f3
  obtain ⟨I4, e4, r4, f4⟩ := t_blk (J := J) T hn hB r3 (by omega) s.2.1
  rw [hbb] at r4
  have f14 := f13.le2 (Int.le_refl _) f4
  have e5 := t_isAt (J := J) T hn hB r4 (by omega) s.2.1 (lo := 48) (hi := 57) ⟨by omega, by omega⟩ ⟨by omega, by omega⟩
  have run : s_X11_readUnit (s_rd f) m (sh, I, J) = if isD B n b then (gI (sh, I4, J) 9 m 16).bind fun v34 => (if w32 v34 = w32 40 then some (0, ((sh, I4, J) : Me)) else (gI (sh, I4, J) 9 m 16).bind fun v36 => (pI (sh, I4, J) 9 m 16 (v36 + 1)).bind fun m37 => (ck m37 9 m).bind fun _ => (s_X11_number m 999 m37).bind fun q38 => (if w32 q38.1 < 0 then some (0, q38.2) else (ck q38.2 9 m).bind fun _ => (s_X11_emits m 1 q38.1 q38.2).bind fun q41 => (if w32 q41.1 = 0 then some (0, q41.2) else some (1, q41.2)))) else s_X11_readUnit_l161 (s_rd f) m (sh, I4, J) := by
    unfold s_X11_readUnit
    rw [t_ck T, bsome, e1, bsome]
    dsimp only
    rw [if_pos z0, t_ck T, bsome, e2, bsome]
    dsimp only
    rw [if_pos z0, t_ck T, bsome, e3, bsome]
    dsimp only
    rw [if_pos z0, t_ck T, bsome, e4, bsome, t_ck T, bsome, e5, bsome]
    dsimp only
    by_cases h9 : isD B n b
    · rw [if_pos h9, if_neg z1, if_pos h9]
    · rw [if_neg h9, if_pos z0, if_neg h9]
  rw [run]
  by_cases cD : isD B n b
  · rw [if_pos cD, if_pos cD, t_gI T, bsome, r4.2.1.2.1, w32_id (x := it) (by omega) (by omega), show w32 40 = 40 from rfl]
    by_cases h40 : it = 40
    · rw [if_pos h40, if_pos h40]
      exact ⟨fun r hr => (by cases hr), fun pl hr => ⟨I4, rfl, by rw [r4.1.2.2]; exact Sum.inl.inj hr, f14⟩⟩
    rw [if_neg h40, if_neg h40, bsome, t_pI T, bsome, t_ck T, bsome]
    have r5 := r4.w16 (it + 1)
    have f15 := f14.le2 (Int.le_refl _) (FR.own (m := m) (k := 16) (v := it + 1) (Or.inr (Or.inr (Or.inr (Or.inl rfl)))))
    obtain ⟨n1, n2⟩ := t_number (J := J) T hn hB r5 (by omega) s.2.1 (most := 999) (by omega)
    cases hq : nmS B n 999 b with
    | inl pl =>
      obtain ⟨I6, e6, b6, f6⟩ := n1 pl hq
      refine ⟨fun r hr => (by cases hr), fun pl' hr => ⟨I6, ?_, by rw [b6]; exact Sum.inl.inj hr, f15.le2 (Int.le_refl _) f6⟩⟩
      rw [e6, bsome]
      rfl
    | inr q =>
      obtain ⟨v, e⟩ := q
      obtain ⟨I6, bg6, e6, r6, f6⟩ := n2 _ hq
      obtain ⟨v1, v2, v3, v4⟩ := nmS_ok (by omega) s.2.1 hn hq
      obtain ⟨I7, e7, r7, o7, w7, f7⟩ := t_emits (J := J) T r6 (o := 1) (v := v) (by omega) (by omega)
      refine ⟨fun r hr => ?_, fun pl hr => (by cases hr)⟩
      rw [← Sum.inr.inj (show (Sum.inr (tCs v, e, it + 1) : PR) = .inr r from hr)]
      refine ⟨I7, _, ?_, r7, ⟨⟨o7, w7⟩, trivial⟩, (f15.le2 (Int.le_refl _) f6).le2 (Int.le_refl _) f7⟩
      rw [e6, bsome]
      dsimp only
      rw [w32_id (x := v) (by omega) (by omega), if_neg (by omega), t_ck T, bsome, e7, bsome]
      rfl
  rw [if_neg cD, if_neg cD]
  obtain ⟨I5, y, e6, r5, f5, y1, y2, y3, y4⟩ := t_l161 (J := J) (F := s_rd f) T hn hB 401 b I4 (by omega) (Int.le_refl _) (by omega) s.2.1 r4
  have f15 := f14.le2 (Int.le_refl _) f5
  have hBb := hB b
  rw [e6]
  unfold s_X11_readUnit_b185
  rw [t_gI T, bsome, t_gI T, bsome, r5.1.1, r5.1.2.2, w32_id (x := y - b) (by omega) (by omega), show w32 1 = 1 from rfl]
  have fail : ∀ z : Option (Int × Me), z = some (0, (sh, I5, J)) → ¬((b < n ∧ B b = 102) ∧ ¬(b + 1 < n ∧ 97 ≤ B (b + 1) ∧ B (b + 1) ≤ 122) ∧ it ≠ 40) →
      (∀ r, (if (b < n ∧ B b = 102) ∧ ¬(b + 1 < n ∧ 97 ≤ B (b + 1) ∧ B (b + 1) ≤ 122) ∧ it ≠ 40 then (.inr (tIt, b + 1, it + 1) : PR) else .inl b) = .inr r → ∃ I' bg', z = some (1, (sh, I', J)) ∧ RS I' m n B r.2.1 deep r.2.2 (st + (pst r.1).length) bg' ∧ DRt (I' (m + 1)) st (pst r.1) ∧ FR m I I' st) ∧
      (∀ pl, (if (b < n ∧ B b = 102) ∧ ¬(b + 1 < n ∧ 97 ≤ B (b + 1) ∧ B (b + 1) ≤ 122) ∧ it ≠ 40 then (.inr (tIt, b + 1, it + 1) : PR) else .inl b) = .inl pl → ∃ I', z = some (0, (sh, I', J)) ∧ I' m 14 = pl ∧ FR m I I' st) := by
    intro z hz hno
    rw [if_neg hno]
    exact ⟨fun r hr => (by cases hr), fun pl hr => ⟨I5, hz, by rw [r5.1.2.2]; exact Sum.inl.inj hr, f15⟩⟩
  by_cases hy : y - b = 1
  · rw [if_pos hy]
    have hlet := y4.mp (by omega)
    simp (disch := omega) only [bsome, t_ck T, t_gI T, t_pI T, t_gJ T, t_pJ T, tR_tape T, tA_tape T, tU_tape T, r5.1.2.2, r5.2.2, w32_id (x := B b), show w32 102 = 102 from rfl]
    by_cases h102 : B b = 102
    · rw [if_pos h102, r5.2.1.2.1, w32_id (x := it) (by omega) (by omega), show w32 40 = 40 from rfl]
      by_cases h40 : it = 40
      · rw [if_pos h40]
        exact fail _ rfl (fun g => g.2.2 h40)
      rw [if_neg h40, if_pos ⟨⟨hlet.1.1, h102⟩, hlet.2, h40⟩]
      have r6 := r5.w16 (it + 1)
      have f16 := f15.le2 (Int.le_refl _) (FR.own (m := m) (k := 16) (v := it + 1) (Or.inr (Or.inr (Or.inr (Or.inl rfl)))))
      obtain ⟨I7, e7, r7, o7, w7, f7⟩ := t_emits (J := J) T r6 (o := 0) (v := 0) (by omega) (by omega)
      rw [e7, bsome]
      refine ⟨fun r hr => ?_, fun pl hr => (by cases hr)⟩
      rw [← Sum.inr.inj hr]
      refine ⟨I7, b, rfl, ?_, ⟨⟨o7, w7⟩, trivial⟩, f16.le2 (Int.le_refl _) f7⟩
      rw [show b + 1 = y by omega]
      exact r7
    · rw [if_neg h102]
      exact fail _ rfl (fun g => h102 g.1.2)
  · rw [if_neg hy]
    refine fail _ rfl (fun g => hy ?_)
    have := y4.mpr ⟨⟨g.1.1, by omega, by omega⟩, g.2.1⟩
    omega
theorem t_ovl (T : TL sh m) {n : Int} {B : Int → Int} (hn : n ≤ 400) (hB : okB B) {f : Nat} (IH : RdOk sh J m n B f) {I : Nat → Int → Int} {a deep it st : Int} (hR : RS I m n B a deep it st (a - 1)) (h0 : 0 ≤ a) (h1 : a ≤ n) (hd : 0 ≤ deep ∧ deep ≤ 6) (hi : 0 ≤ it ∧ it ≤ 40) (hs : 0 ≤ st ∧ st ≤ 4 * it) (hf : 4 * (6 - deep) + 1 ≤ f + 1) :
    (∀ r, ovR B n (prR false B n f) a deep it = .inr r → ∃ I' bg', s_X11_readOverlap (s_rd f) m (sh, I, J) = some (1, (sh, I', J)) ∧ RS I' m n B r.2.1 deep r.2.2 (st + (pst r.1).length) bg' ∧ DRt (I' (m + 1)) st (pst r.1) ∧ FR m I I' st) ∧
    (∀ pl, ovR B n (prR false B n f) a deep it = .inl pl → ∃ I', s_X11_readOverlap (s_rd f) m (sh, I, J) = some (0, (sh, I', J)) ∧ I' m 14 = pl ∧ FR m I I' st) := by
  have z1 : ¬ w32 1 = 0 := by decide
  have z0 : w32 0 = 0 := rfl
  obtain ⟨d1, d2⟩ := t_deeper (J := J) T hR hd
  unfold ovR s_X11_readOverlap
  rw [t_gI T, bsome, hR.2.1.2.1, w32_id (x := it) (by omega) (by omega), show w32 40 = 40 from rfl]
  by_cases h40 : it = 40
  · rw [if_pos h40, if_pos (Or.inl h40)]
    exact ⟨fun r hr => (by cases hr), fun pl hr => ⟨I, rfl, by rw [hR.1.2.2]; exact Sum.inl.inj hr, FR.refl⟩⟩
  rw [if_neg h40, t_ck T, bsome]
  by_cases h6 : deep = 6
  · rw [if_pos (Or.inr h6), d1 h6, bsome]
    exact ⟨fun r hr => (by cases hr), fun pl hr => ⟨I, rfl, by rw [hR.1.2.2]; exact Sum.inl.inj hr, FR.refl⟩⟩
  rw [if_neg (show ¬(it = 40 ∨ deep = 6) by omega)]
  obtain ⟨I1, e1, r1, f1⟩ := d2 h6
  rw [e1, bsome]
  dsimp only
  rw [if_neg z1, t_gI T, bsome, r1.2.1.2.1, t_pI T, bsome, t_ck T, bsome]
  have r2 := r1.w16 (it + 1)
  obtain ⟨I2, hI2⟩ : ∃ I2, up1 I1 m (upz (I1 m) 16 (it + 1)) = I2 := ⟨_, rfl⟩
  have f2 := f1.le2 (Int.le_refl _) (FR.own (m := m) (k := 16) (v := it + 1) (Or.inr (Or.inr (Or.inr (Or.inl rfl)))))
  rw [hI2] at r2 f2 ⊢
  obtain ⟨g1, g2⟩ := IH 0 I2 a (deep + 1) (it + 1) st (a - 1) r2 h0 h1 (by omega) (by omega) (by omega) (Or.inl ⟨rfl, by omega⟩) (fun h => absurd h (by decide))
  have ok1 := prR_ok (hard := false) (B := B) hn f 0 a (deep + 1) (it + 1) h0 h1 (by omega) (by omega)
  cases hq : prR false B n f 0 a (deep + 1) (it + 1) with
  | inl pl =>
    obtain ⟨I3, e3, b3, f3⟩ := g2 pl hq
    rw [e3, bsome]
    exact ⟨fun r hr => (by cases hr), fun pl' hr => ⟨I3, rfl, by rw [b3]; exact Sum.inl.inj hr, f2.le2 (Int.le_refl _) f3⟩⟩
  | inr q =>
    obtain ⟨I3, bg3, e3, r3, D3, f3⟩ := g1 q hq
    have okq := ok1 q hq
    have sq := okT_st (st := st) okq (by omega) (by omega)
    obtain ⟨q1, ⟨q2, q3⟩, q4, q5, q6⟩ := okq
    have lq := lvs_pos q.1
    have s2 := skS_b (B := B) (n := n) (a := q.2.1) (by omega) q3 hn
    obtain ⟨c1, c2⟩ := t_has (J := J) T hn hB r3 (by omega) q3 (c := 44) ⟨by omega, by omega⟩
    rw [e3, bsome]
    dsimp only
    rw [if_neg z1, t_ck T, bsome]
    show (∀ r, (if skS B n q.2.1 < n ∧ B (skS B n q.2.1) = 44 then (prR false B n f 0 (skS B n q.2.1 + 1) (deep + 1) q.2.2).elim .inl (fun w => if skS B n w.2.1 < n ∧ B (skS B n w.2.1) = 93 then (nmS B n 8 (skS B n w.2.1 + 1)).elim .inl (fun v => .inr (tPr (4, v.1) q.1 w.1, v.2, w.2.2)) else .inl (skS B n w.2.1)) else (.inl (skS B n q.2.1) : PR)) = .inr r → _) ∧ ∀ pl, (if skS B n q.2.1 < n ∧ B (skS B n q.2.1) = 44 then (prR false B n f 0 (skS B n q.2.1 + 1) (deep + 1) q.2.2).elim .inl (fun w => if skS B n w.2.1 < n ∧ B (skS B n w.2.1) = 93 then (nmS B n 8 (skS B n w.2.1 + 1)).elim .inl (fun v => .inr (tPr (4, v.1) q.1 w.1, v.2, w.2.2)) else .inl (skS B n w.2.1)) else (.inl (skS B n q.2.1) : PR)) = .inl pl → _
    have f23 := f2.le2 (Int.le_refl _) f3
    by_cases c44 : skS B n q.2.1 < n ∧ B (skS B n q.2.1) = 44
    · rw [if_pos c44]
      obtain ⟨I4, e4, r4, f4⟩ := c2 c44
      have f24 := f23.le2 (Int.le_refl _) (f4.le (show st ≤ st + (pst q.1).length by omega))
      have D4 := DRt_eq D3 (fun j hj => f4.2.2 j (by omega))
      rw [e4, bsome]
      dsimp only
      rw [if_neg z1, t_ck T, bsome]
      obtain ⟨h1', h2'⟩ := IH 0 I4 (skS B n q.2.1 + 1) (deep + 1) q.2.2 (st + (pst q.1).length) (skS B n q.2.1) r4 (by omega) (by omega) (by omega) (by omega) (by
        have l := pst_len q.1.1 q.1.2
        have l1 : ((pst q.1).length : Int) + 1 = 2 * lvs q.1 + mis q.1 := by exact_mod_cast l
        have l6 : (6 - (deep + 1)) * (lvs q.1 : Int) ≤ 6 * lvs q.1 := Int.mul_le_mul_of_nonneg_right (by omega) (by omega)
        omega) (Or.inl ⟨rfl, by omega⟩) (fun h => absurd h (by decide))
      have ok2 := prR_ok (hard := false) (B := B) hn f 0 (skS B n q.2.1 + 1) (deep + 1) q.2.2 (by omega) (by omega) (by omega) (by omega)
      cases hw : prR false B n f 0 (skS B n q.2.1 + 1) (deep + 1) q.2.2 with
      | inl pl =>
        obtain ⟨I5, e5, b5, f5⟩ := h2' pl hw
        rw [e5, bsome]
        exact ⟨fun r hr => (by cases hr), fun pl' hr => ⟨I5, rfl, by rw [b5]; exact Sum.inl.inj hr, f24.le2 (Int.le_refl _) (f5.le (by omega))⟩⟩
      | inr w =>
        obtain ⟨I5, bg5, e5, r5, D5, f5⟩ := h1' w hw
        obtain ⟨w1, ⟨w2, w3⟩, w4, w5, w6⟩ := ok2 w hw
        have lw := lvs_pos w.1
        have s3 := skS_b (B := B) (n := n) (a := w.2.1) (by omega) w3 hn
        have f25 := f24.le2 (Int.le_refl _) (f5.le (show st ≤ st + (pst q.1).length by omega))
        have D45 := DRt_eq D4 (fun j hj => f5.2.2 j hj)
        obtain ⟨x1, x2⟩ := t_has (J := J) T hn hB r5 (by omega) w3 (c := 93) ⟨by omega, by omega⟩
        rw [e5, bsome]
        dsimp only
        rw [if_neg z1, t_ck T, bsome]
        show (∀ r, (if skS B n w.2.1 < n ∧ B (skS B n w.2.1) = 93 then (nmS B n 8 (skS B n w.2.1 + 1)).elim .inl (fun v => .inr (tPr (4, v.1) q.1 w.1, v.2, w.2.2)) else (.inl (skS B n w.2.1) : PR)) = .inr r → _) ∧ ∀ pl, (if skS B n w.2.1 < n ∧ B (skS B n w.2.1) = 93 then (nmS B n 8 (skS B n w.2.1 + 1)).elim .inl (fun v => .inr (tPr (4, v.1) q.1 w.1, v.2, w.2.2)) else (.inl (skS B n w.2.1) : PR)) = .inl pl → _
        by_cases c93 : skS B n w.2.1 < n ∧ B (skS B n w.2.1) = 93
        · rw [if_pos c93]
          obtain ⟨I6, e6, r6, f6⟩ := x2 c93
          have lenw : (0 : Int) ≤ (pst w.1).length := by omega
          have f26 := f25.le2 (Int.le_refl _) (f6.le (show st ≤ st + (pst q.1).length + (pst w.1).length by omega))
          have D46 := DRt_eq D45 (fun j hj => f6.2.2 j (by omega))
          have D56 := DRt_eq D5 (fun j hj => f6.2.2 j (by omega))
          rw [e6, bsome]
          dsimp only
          have r7 := r6.w15 (deep + 1 - 1)
          rw [show deep + 1 - 1 = deep by omega] at r7
          obtain ⟨I7, hI7⟩ : ∃ I7, up1 I6 m (upz (I6 m) 15 deep) = I7 := ⟨_, rfl⟩
          have f7 : FR m I6 I7 (st + (pst q.1).length + (pst w.1).length) := by rw [← hI7]; exact FR.own (Or.inr (Or.inr (Or.inl rfl)))
          rw [hI7] at r7
          have f27 := f26.le2 (Int.le_refl _) (f7.le (show st ≤ st + (pst q.1).length + (pst w.1).length by omega))
          have D47 := DRt_eq D46 (fun j hj => f7.2.2 j (by omega))
          have D57 := DRt_eq D56 (fun j hj => f7.2.2 j (by omega))
          rw [if_neg z1, t_gI T, bsome, r6.2.1.1, show deep + 1 - 1 = deep by omega, t_pI T, bsome, hI7, t_ck T, bsome]
          obtain ⟨n1, n2⟩ := t_number (J := J) T hn hB r7 (by omega) (by omega) (most := 8) (by omega)
          cases hv : nmS B n 8 (skS B n w.2.1 + 1) with
          | inl pl =>
            obtain ⟨I8, e8, b8, f8⟩ := n1 pl hv
            rw [e8, bsome]
            exact ⟨fun r hr => (by cases hr), fun pl' hr => ⟨I8, rfl, by rw [b8]; exact Sum.inl.inj hr, f27.le2 (Int.le_refl _) (f8.le (by omega))⟩⟩
          | inr v =>
            obtain ⟨v, e⟩ := v
            obtain ⟨I8, bg8, e8, r8, f8⟩ := n2 _ hv
            obtain ⟨v1, v2, v3, v4⟩ := nmS_ok (by omega) (by omega) hn hv
            have f28 := f27.le2 (Int.le_refl _) (f8.le (show st ≤ st + (pst q.1).length + (pst w.1).length by omega))
            have D48 := DRt_eq D47 (fun j hj => f8.2.2 j (by omega))
            have D58 := DRt_eq D57 (fun j hj => f8.2.2 j (by omega))
            have hbound : st + (pst q.1).length + (pst w.1).length ≤ 199 := by
              have l := pst_len q.1.1 q.1.2
              have l1 : ((pst q.1).length : Int) + 1 = 2 * lvs q.1 + mis q.1 := by exact_mod_cast l
              have l6 : (6 - (deep + 1)) * (lvs q.1 : Int) ≤ 6 * lvs q.1 := Int.mul_le_mul_of_nonneg_right (by omega) (by omega)
              have k := pst_len w.1.1 w.1.2
              have k1 : ((pst w.1).length : Int) + 1 = 2 * lvs w.1 + mis w.1 := by exact_mod_cast k
              have k6 : (6 - (deep + 1)) * (lvs w.1 : Int) ≤ 6 * lvs w.1 := Int.mul_le_mul_of_nonneg_right (by omega) (by omega)
              omega
            obtain ⟨I9, e9, r9, o9, w9, f9⟩ := t_emits (J := J) T r8 (o := 4) (v := v) (by omega) hbound
            rw [e8, bsome]
            dsimp only
            rw [w32_id (x := v) (by omega) (by omega), if_neg (by omega), t_ck T, bsome, e9, bsome]
            refine ⟨fun r hr => ?_, fun pl hr => (by cases hr)⟩
            rw [← Sum.inr.inj (show (Sum.inr (tPr (4, v) q.1 w.1, e, w.2.2) : PR) = .inr r from hr)]
            have hlen : st + ((pst (tPr (4, v) q.1 w.1)).length : Int) = st + (pst q.1).length + (pst w.1).length + 1 := by
              rw [pst_pr]
              simp
              omega
            refine ⟨I9, bg8, rfl, ?_, ?_, f28.le2 (Int.le_refl _) (f9.le (by omega))⟩
            · rw [hlen]
              exact r9
            · rw [pst_pr]
              exact DRt_app.mpr ⟨DRt_eq D48 (fun j hj => f9.2.2 j (by omega)), DRt_app.mpr ⟨DRt_eq D58 (fun j hj => f9.2.2 j (by omega)), ⟨o9, w9⟩, trivial⟩⟩
        · rw [if_neg c93]
          obtain ⟨I6, e6, r6, f6⟩ := x1 c93
          rw [e6, bsome]
          exact ⟨fun r hr => (by cases hr), fun pl hr => ⟨I6, rfl, by rw [r6.1.2.2]; exact Sum.inl.inj hr, f25.le2 (Int.le_refl _) (f6.le (by omega))⟩⟩
    · rw [if_neg c44]
      obtain ⟨I4, e4, r4, f4⟩ := c1 c44
      rw [e4, bsome]
      exact ⟨fun r hr => (by cases hr), fun pl hr => ⟨I4, rfl, by rw [r4.1.2.2]; exact Sum.inl.inj hr, f23.le2 (Int.le_refl _) (f4.le (by omega))⟩⟩
theorem t_rdall (T : TL sh m) {n : Int} {B : Int → Int} (hn : n ≤ 400) (hB : okB B) : ∀ f : Nat, RdOk sh J m n B f
  | 0 => by
    intro tag I a deep it st bg hR h0 h1 hd hi hs hf
    omega
  | f + 1 => by
    have IH := t_rdall T hn hB f
    intro tag I a deep it st bg hR h0 h1 hd hi hs hf hbg
    have z1 : ¬ w32 1 = 0 := by decide
    have z0 : w32 0 = 0 := rfl
    rcases hf with ⟨rfl, hf⟩ | (⟨rfl, hf⟩ | ⟨rfl, hf⟩) | ⟨rfl, hf⟩
    · show (∀ r, (prR false B n f 1 a deep it).elim .inl (fun r => lpR false B n 43 2 (fun a i => prR false B n f 1 a deep i) 401 r.1 r.2.1 r.2.2) = .inr r → ∃ I' bg', s_X11_readSum (s_rd f) m (sh, I, J) = _ ∧ _) ∧ ∀ pl, (prR false B n f 1 a deep it).elim .inl (fun r => lpR false B n 43 2 (fun a i => prR false B n f 1 a deep i) 401 r.1 r.2.1 r.2.2) = .inl pl → ∃ I', s_X11_readSum (s_rd f) m (sh, I, J) = _ ∧ _
      obtain ⟨g1, g2⟩ := IH 1 I a deep it st bg hR h0 h1 hd hi hs (Or.inr (Or.inl (Or.inl ⟨rfl, by omega⟩))) (fun h => absurd h (by decide))
      have ok := prR_ok (hard := false) (B := B) hn f 1 a deep it h0 h1 hd hi
      unfold s_X11_readSum
      rw [t_ck T, bsome]
      cases hq : prR false B n f 1 a deep it with
      | inl pl =>
        obtain ⟨I2, e2, b2, f2⟩ := g2 pl hq
        rw [e2, bsome]
        exact ⟨fun r hr => (by cases hr), fun pl' hr => ⟨I2, rfl, by rw [b2]; exact Sum.inl.inj hr, f2⟩⟩
      | inr q =>
        obtain ⟨I2, bg2, e2, r2, D2, f2⟩ := g1 q hq
        have okq := ok q hq
        have sq := okT_st (st := st) okq hd.1 hs.2
        obtain ⟨q1, ⟨q2, q3⟩, q4, q5, q6⟩ := okq
        have lq := lvs_pos q.1
        obtain ⟨y1, y2⟩ := t_lpSum (J := J) T hn hB IH hd (by omega) 401 q.1 q.2.1 q.2.2 st bg2 I2 (by omega) (by omega) q3 (by omega) q5 hs.1 sq q1 r2 D2
        rw [e2, bsome]
        dsimp only
        rw [if_neg z1]
        refine ⟨fun r hr => ?_, fun pl hr => ?_⟩
        · obtain ⟨I3, bg3, e3, r3, D3, f3⟩ := y1 r hr
          exact ⟨I3, bg3, e3, r3, D3, f2.le2 (Int.le_refl _) f3⟩
        · obtain ⟨I3, e3, b3, f3⟩ := y2 pl hr
          exact ⟨I3, e3, b3, f2.le2 (Int.le_refl _) f3⟩
    · show (∀ r, (prR false B n f 2 a deep it).elim .inl (fun r => lpR false B n 42 3 (fun a i => prR false B n f 2 a deep i) 401 r.1 r.2.1 r.2.2) = .inr r → ∃ I' bg', s_X11_readProduct (s_rd f) m (sh, I, J) = _ ∧ _) ∧ ∀ pl, (prR false B n f 2 a deep it).elim .inl (fun r => lpR false B n 42 3 (fun a i => prR false B n f 2 a deep i) 401 r.1 r.2.1 r.2.2) = .inl pl → ∃ I', s_X11_readProduct (s_rd f) m (sh, I, J) = _ ∧ _
      obtain ⟨g1, g2⟩ := IH 2 I a deep it st bg hR h0 h1 hd hi hs (Or.inr (Or.inr ⟨rfl, by omega⟩)) (fun h => absurd h (by decide))
      have ok := prR_ok (hard := false) (B := B) hn f 2 a deep it h0 h1 hd hi
      unfold s_X11_readProduct
      rw [t_ck T, bsome]
      cases hq : prR false B n f 2 a deep it with
      | inl pl =>
        obtain ⟨I2, e2, b2, f2⟩ := g2 pl hq
        rw [e2, bsome]
        exact ⟨fun r hr => (by cases hr), fun pl' hr => ⟨I2, rfl, by rw [b2]; exact Sum.inl.inj hr, f2⟩⟩
      | inr q =>
        obtain ⟨I2, bg2, e2, r2, D2, f2⟩ := g1 q hq
        have okq := ok q hq
        have sq := okT_st (st := st) okq hd.1 hs.2
        obtain ⟨q1, ⟨q2, q3⟩, q4, q5, q6⟩ := okq
        have lq := lvs_pos q.1
        obtain ⟨y1, y2⟩ := t_lpProduct (J := J) T hn hB IH hd (by omega) 401 q.1 q.2.1 q.2.2 st bg2 I2 (by omega) (by omega) q3 (by omega) q5 hs.1 sq q1 r2 D2
        rw [e2, bsome]
        dsimp only
        rw [if_neg z1]
        refine ⟨fun r hr => ?_, fun pl hr => ?_⟩
        · obtain ⟨I3, bg3, e3, r3, D3, f3⟩ := y1 r hr
          exact ⟨I3, bg3, e3, r3, D3, f2.le2 (Int.le_refl _) f3⟩
        · obtain ⟨I3, e3, b3, f3⟩ := y2 pl hr
          exact ⟨I3, e3, b3, f2.le2 (Int.le_refl _) f3⟩
    · have hbg' := hbg rfl
      subst hbg'
      exact t_ovl T hn hB IH hR h0 h1 hd hi hs (by omega)
    · exact t_unit T hn hB IH hR h0 h1 hd hi hs (by omega)
end TR2
