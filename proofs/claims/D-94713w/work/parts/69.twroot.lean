/-! the twin: roots -/
set_option maxRecDepth 100000
def rsB (p : Int) (F : Fo) : Nat → Int
  | 0 => 0
  | n + 1 => orI (rsB p F n) (if 0 < rtP p F n then slI 1 n else 0)
def emB (p : Int) (F : Fo) : Nat → Int
  | 0 => 0
  | n + 1 => if emB p F n = 1 then 1 else if (F.1 : Int) < 2 * rtP p F n then 1 else 0
theorem emB_b (p : Int) (F : Fo) : ∀ n : Nat, emB p F n = 0 ∨ emB p F n = 1
  | 0 => Or.inl rfl
  | n + 1 => by
    unfold emB
    split
    · exact Or.inr rfl
    · split
      · exact Or.inr rfl
      · exact Or.inl rfl
theorem emB_up (p : Int) (F : Fo) (n : Nat) (h : emB p F n = 1) : ∀ k : Nat, emB p F (n + k) = 1
  | 0 => h
  | k + 1 => if_pos (emB_up p F n h k)
theorem rtP_b (p : Int) (F : Fo) (t : Int) (hF : F.1 ≤ 40) : 0 ≤ rtP p F t ∧ rtP p F t ≤ 99 := by
  have := ofR_b p F.1 F.2 t
  unfold rtP
  split <;> omega
section TRt
variable {sh : Sh} {I J : Nat → Int → Int} {m : Nat} {p : Int}
theorem t_ofR (T : TL sh m) (hI : I (m + 1) 0 = p) (hp : Pp p) {r t : Int} {d : Nat} {c : Int → Int} (hr : 0 ≤ r ∧ r < 48 ∧ r ≠ 43) (hd : d ≤ 40) (ht : 0 ≤ t ∧ t ≤ p) (hc : RW I m p r d c) (hn : ¬ nz p d c) :
    ∃ I', s_X11_oftenRoot m r t (sh, I, J) = some (ofR p d c t, (sh, I', J)) ∧ RF m (fun q => q = 43) I I' := by
  have hb := hp.b
  unfold s_X11_oftenRoot ofR
  simp (disch := omega) only [t_ck T, bsome, t_p T, hI, w32_id]
  by_cases htp : t = p
  · rw [if_pos htp, if_pos htp]
    refine ⟨I, ?_, RF.refl⟩
    have key : ∀ k i : Nat, i + k = d → (∀ j : Int, 0 ≤ j → j < i → c j % p = 0) → s_X11_oftenRoot_l10 m r i (sh, I, J) = some ((ldZ p c k i : Int), (sh, I, J)) := by
      intro k
      induction k with
      | zero =>
        intro i hi hz
        have h1 := hc.2 i (by omega) (by omega)
        have h2 := emod_b hp (c i)
        have h3 : c i % p ≠ 0 := by
          intro h
          refine hn (fun j a b => ?_)
          by_cases e : j = i
          · rw [e, h]
          · exact hz j a (by omega)
        rw [e_X11_oftenRoot_l10]
        unfold s_X11_oftenRoot_l10_st
        simp (disch := omega) only [t_ck T, bsome, t_of T, h1, w32_id, if_neg, ifT]
        rfl
      | succ k ih =>
        intro i hi hz
        have h1 := hc.2 i (by omega) (by omega)
        have h2 := emod_b hp (c i)
        rw [e_X11_oftenRoot_l10]
        unfold s_X11_oftenRoot_l10_st
        simp (disch := omega) only [t_ck T, bsome, t_of T, h1, w32_id]
        unfold ldZ
        by_cases h : c i % p = 0
        · rw [if_pos h, if_pos h]
          refine ih (i + 1) (by omega) (fun j a b => ?_)
          by_cases e : j = i
          · rw [e, h]
          · exact hz j a (by omega)
        · rw [if_neg h, if_neg h]
          rfl
    exact key d 0 (by omega) (fun j a b => absurd b (by omega))
  · rw [if_neg htp, if_neg htp]
    have htm : t % p = t := Int.emod_eq_of_lt ht.1 (by omega)
    have h1m : (1 : Int) % p = 1 := Int.emod_eq_of_lt (by omega) (by omega)
    obtain ⟨I1, e1, r1, f1⟩ := t_copies (J := J) T (r := r) (to := 43) (by omega) (by omega) (by omega) hc
    simp (disch := omega) only [t_ck T, bsome, e1]
    have key : ∀ (d : Nat) (c : Int → Int) (n : Int) (I1 : Nat → Int → Int), d ≤ 40 → RW I1 m p 43 d c → RF m (fun q => q = 43) I I1 → ∃ I', s_X11_oftenRoot_l34 m t n (sh, I1, J) = some (n + rtF p t d c, (sh, I', J)) ∧ RF m (fun q => q = 43) I I' := by
      intro d
      induction d with
      | zero =>
        intro c n I1 hd r1 f1
        refine ⟨I1, ?_, f1⟩
        have h9 := r1.1
        rw [e_X11_oftenRoot_l34]
        unfold s_X11_oftenRoot_l34_st
        simp (disch := omega) only [bsome, t_ck T, t_gI T, t_pI T, t_gJ T, t_pJ T, tR_deg T, tA_deg T, tU_deg T, h9, w32_id, if_pos, ifT]
        show some (n, _) = some (n + 0, _)
        rw [Int.add_zero]
      | succ d ih =>
        intro c n I1 hd r1 f1
        have h9 := r1.1
        have e2 := t_valueAt (J := J) T (f1.pw hI) hp t 1 (r := 43) (by omega) (by omega) r1
        rw [htm, h1m, syD_ev] at e2
        have h2 := emod_b hp (syD t c (d + 1))
        rw [e_X11_oftenRoot_l34]
        unfold s_X11_oftenRoot_l34_st
        simp (disch := omega) only [bsome, t_ck T, t_gI T, t_pI T, t_gJ T, t_pJ T, tR_deg T, tA_deg T, tU_deg T, h9, w32_id, if_neg, e2, ifT]
        unfold rtF
        by_cases h : syD t c (d + 1) % p = 0
        · rw [if_pos h, if_pos h]
          have hl : ∃ I', s_X11_oftenRoot_l58 m t n 1 (sh, I1, J) = some (Sum.inl (n + 1, (sh, I', J))) ∧ RW I' m p 43 d (fun k => syD t c k.toNat) ∧ RF m (fun q => q = 43) I1 I' := by
            unfold s_X11_oftenRoot_l58
            refine ex_g (fun I' => Sum.inl (n + 1, ((sh, I', J) : Me))) (whileO_for (d + 1)
              (fun i s => ∃ I', s = (1 + (i : Int), ((sh, I', J) : Me)) ∧ I' (m + 3) 43 = d + 1 ∧ (∀ l : Int, 0 ≤ l → l ≤ i → I' (m + 4) (41 * 43 + l) = syD t c l.toNat % p) ∧ (∀ l : Int, i < l → l ≤ d + 1 → I' (m + 4) (41 * 43 + l) = c l % p) ∧ RF m (fun q => q = 43) I1 I')
              _ ?_ ?_ _ ?_)
            · rintro i s hi ⟨I3, rfl, a1, a2, a3, a4⟩
              have b1 := a3 (1 + i) (by omega) (by omega)
              have b2 := a2 (1 + (i : Int) - 1) (by omega) (by omega)
              rw [show (1 + (i : Int) - 1).toNat = i by omega] at b2
              have hI3 := a4.pw (f1.pw hI)
              have e3 := t_timesM (J := J) T hI3 hp t (syD t c i)
              rw [htm] at e3
              obtain ⟨I4, e4, k1, k2, k3, k4⟩ := t_putR (I := I3) (J := J) T (r := 43) (k := 1 + i) (v := (c (1 + i) + t * syD t c i) % p) (by omega) (by omega) (by omega) (by omega)
              refine ⟨(1 + (i : Int) + 1, (sh, I4, J)), ?_, I4, by simp [Int.add_assoc], by rw [k2]; exact a1, fun l g1 g2 => ?_, fun l g1 g2 => ?_, a4.trans k4⟩
              · unfold s_X11_oftenRoot_l58_st
                dsimp only
                simp (disch := omega) only [bsome, t_ck T, t_gI T, t_pI T, t_gJ T, t_pJ T, tR_deg T, tA_deg T, tU_deg T, a1, w32_id, if_neg, t_of T, b1, b2, e3, t_plusM T hI3 hp, e4, ifT]
              · by_cases e : l = 1 + i
                · rw [e, k1, show (1 + (i : Int)).toNat = i + 1 by omega]
                  show _ = (c ((i + 1 : Nat) : Int) + t * syD t c i) % p
                  rw [show ((i + 1 : Nat) : Int) = 1 + i by omega]
                · rw [k3 _ (by omega)]
                  exact a2 l g1 (by omega)
              · rw [k3 _ (by omega)]
                exact a3 l (by omega) g2
            · rintro s ⟨I3, rfl, a1, a2, a3, a4⟩
              unfold s_X11_oftenRoot_l58_st s_X11_oftenRoot_b111
              dsimp only
              simp (disch := omega) only [bsome, t_ck T, t_gI T, t_pI T, t_gJ T, t_pJ T, tR_deg T, tA_deg T, tU_deg T, a1, w32_id, if_pos, ifT]
              refine ⟨_, rfl, _, rfl, ⟨?_, fun k x y => ?_⟩, ?_⟩
              · rw [up1_s, upz_s]
                omega
              · rw [up1_n _ _ (by omega)]
                exact a2 k x (by omega)
              · refine a4.trans ⟨fun a x y => up1_n _ _ x, fun q x y z => ⟨?_, fun k a b => ?_⟩⟩
                · rw [up1_s, upz_n _ _ z]
                · rw [up1_n _ _ (by omega)]
            · refine ⟨I1, by simp, h9, fun l g1 g2 => ?_, fun l g1 g2 => r1.2 l (by omega) (by omega), RF.refl⟩
              have : l = 0 := by omega
              subst this
              exact r1.2 0 (by omega) (by omega)
          obtain ⟨I2, e5, r5, f5⟩ := hl
          rw [e5]
          obtain ⟨I3, e6, f6⟩ := ih (fun k => syD t c k.toNat) (n + 1) I2 (by omega) r5 (f1.trans f5)
          refine ⟨I3, ?_, f6⟩
          rw [show n + (1 + rtF p t d (fun k => syD t c k.toNat)) = n + 1 + rtF p t d (fun k => syD t c k.toNat) by omega]
          exact e6
        · rw [if_neg h, if_neg h, Int.add_zero]
          exact ⟨I1, rfl, f1⟩
    obtain ⟨I', h1, h2⟩ := key d c 0 I1 hd r1 f1
    refine ⟨I', ?_, h2⟩
    rw [h1, Int.zero_add]
theorem t_root (T : TL sh m) (hW : WI (I (m + 1))) {f t : Int} (hf : i32 f) (ht : i32 t) :
    ((0 ≤ f ∧ f < I (m + 1) 1) → (0 ≤ t ∧ t ≤ I (m + 1) 0) → QG (s_X11_root m f t (sh, I, J)) sh I J m (rtP (I (m + 1) 0) (fF (I (m + 1)) f) t)) ∧
    (¬(0 ≤ f ∧ f < I (m + 1) 1) → QB (s_X11_root m f t (sh, I, J)) sh I J m 1) ∧ ((0 ≤ f ∧ f < I (m + 1) 1) → ¬(0 ≤ t ∧ t ≤ I (m + 1) 0) → QB (s_X11_root m f t (sh, I, J)) sh I J m 2) := by
  obtain ⟨W, hw⟩ : ∃ W, I (m + 1) = W := ⟨_, rfl⟩
  rw [hw] at hW ⊢
  have hc := hW.c1
  have hp := hW.pp
  have hb := hp.b
  have h0 : thr I m 0 (m + 1) = W := by rw [thr_n (by omega), hw]
  have e1 := t_noF (I := thr I m 0) (J := J) T (by rw [h0]; exact hc) hf
  rw [h0] at e1
  have e2 := x_in (lo := 0) (hi := W 0) ht ⟨by omega, by omega⟩ ⟨by omega, by omega⟩ (sh, thr I m 0, J)
  have np : s_X11_noPoint m t (sh, thr I m 0, J) = some (if 0 ≤ t ∧ t ≤ W 0 then 0 else 1, (sh, thr I m 0, J)) := by
    unfold s_X11_noPoint
    simp (disch := omega) only [t_ck T, bsome, t_p T, h0, e2]
    by_cases h : 0 ≤ t ∧ t ≤ W 0
    · rw [if_pos h, if_pos h]; rfl
    · rw [if_neg h, if_neg h]; rfl
  refine ⟨fun h g => ?_, fun h => ?_, fun h g => ?_⟩
  · rw [if_pos h] at e1
    rw [if_pos g] at np
    obtain ⟨I2, e3, r3, f3⟩ := t_takesF (I := thr I m 0) (J := J) T h0 hW (r := 40) (by omega) h.1 h.2
    have hw3 : I2 (m + 1) = W := by rw [f3.w, h0]
    have hF8 := (fF_1 (hW.f h.1 h.2)).2
    obtain ⟨F, hF⟩ : ∃ F, fF W f = F := ⟨_, rfl⟩
    rw [hF] at r3 hF8 ⊢
    have e4 := t_isN (J := J) T hp (r := 40) (by omega) (by omega) r3
    rw [show ((F.1 : Int) + 1).toNat = F.1 + 1 by omega] at e4
    unfold s_X11_root
    simp (disch := omega) only [t_thr T, bsome, t_ck T, e1, np, t_if0, w32_id (x := 0), if_pos, e3, e4, ifT]
    unfold rtP
    rcases (nzI_iff (W 0) F.2 (F.1 + 1)).1 with hn | hn
    · rw [hn, if_neg (show ¬(0 : Int) = 1 by decide), if_pos (show w32 0 = 0 from rfl)]
      have hnn : ¬ nz (W 0) F.1 F.2 := by
        intro h9
        have := (nzI_nz (p := W 0) (c := F.2) (show -1 ≤ (F.1 : Int) by omega)).mpr h9
        rw [show ((F.1 : Int) + 1).toNat = F.1 + 1 by omega, hn] at this
        exact absurd this (by decide)
      obtain ⟨I4, e5, f5⟩ := t_ofR (J := J) T (p := W 0) (by rw [hw3]) hp (r := 40) (t := t) (by omega) (by omega) g r3 hnn
      rw [e5, bsome]
      exact ⟨_, _, rfl, f3.hk.trans f5.hk, HJ.refl⟩
    · rw [hn, if_pos rfl, if_neg (show ¬ w32 1 = 0 by decide)]
      exact ⟨_, _, rfl, f3.hk, HJ.refl⟩
  · rw [if_neg h] at e1
    unfold s_X11_root
    simp (disch := omega) only [t_thr T, bsome, t_ck T, e1, t_if1 T, w32_id, if_neg, thr_thr, ifT]
    exact ⟨_, _, _, rfl, HK.refl, HJ.refl⟩
  · rw [if_pos h] at e1
    rw [if_neg g] at np
    unfold s_X11_root
    simp (disch := omega) only [t_thr T, bsome, t_ck T, e1, np, t_if0, t_if1 T, w32_id, if_pos, if_neg, thr_thr, ifT]
    exact ⟨_, _, _, rfl, HK.refl, HJ.refl⟩
/-- the order at a point, as both loops ask for it -/
theorem t_rt (T : TL sh m) (hI : I (m + 1) 0 = p) (hp : Pp p) {t : Int} {F : Fo} (hd : F.1 ≤ 40) (ht : 0 ≤ t ∧ t ≤ p) (hc : RW I m p 40 F.1 F.2) (hn : nzI p F.2 (F.1 + 1) = 0) :
    ∃ I', s_X11_oftenRoot m 40 t (sh, I, J) = some (rtP p F t, (sh, I', J)) ∧ RF m (fun q => q = 43) I I' := by
  have hnn : ¬ nz p F.1 F.2 := by
    intro h9
    have := (nzI_nz (p := p) (c := F.2) (show -1 ≤ (F.1 : Int) by omega)).mpr h9
    rw [show ((F.1 : Int) + 1).toNat = F.1 + 1 by omega, hn] at this
    exact absurd this (by decide)
  unfold rtP
  rw [hn, if_neg (by decide)]
  exact t_ofR T hI hp (by omega) hd ht hc hnn
theorem t_roots (T : TL sh m) (hW : WI (I (m + 1))) {f : Int} (hf : i32 f) :
    ((0 ≤ f ∧ f < I (m + 1) 1) → QG (s_X11_roots m f (sh, I, J)) sh I J m (rsB (I (m + 1) 0) (fF (I (m + 1)) f) (I (m + 1) 0 + 1).toNat)) ∧
    (¬(0 ≤ f ∧ f < I (m + 1) 1) → QB (s_X11_roots m f (sh, I, J)) sh I J m 1) := by
  obtain ⟨W, hw⟩ : ∃ W, I (m + 1) = W := ⟨_, rfl⟩
  rw [hw] at hW ⊢
  have hc := hW.c1
  have hp := hW.pp
  have hb := hp.b
  have h0 : thr I m 0 (m + 1) = W := by rw [thr_n (by omega), hw]
  have e1 := t_noF (I := thr I m 0) (J := J) T (by rw [h0]; exact hc) hf
  rw [h0] at e1
  refine ⟨fun h => ?_, fun h => ?_⟩
  · rw [if_pos h] at e1
    obtain ⟨I2, e3, r3, f3⟩ := t_takesF (I := thr I m 0) (J := J) T h0 hW (r := 40) (by omega) h.1 h.2
    have hw3 : I2 (m + 1) = W := by rw [f3.w, h0]
    have hF8 := (fF_1 (hW.f h.1 h.2)).2
    obtain ⟨F, hF⟩ : ∃ F, fF W f = F := ⟨_, rfl⟩
    rw [hF] at r3 hF8 ⊢
    unfold s_X11_roots
    simp (disch := omega) only [t_thr T, bsome, t_ck T, e1, t_if0, w32_id, if_pos, e3, ifT]
    unfold s_X11_roots_l31
    have hlp := whileO_for (f := fun s : Int × Int × Me => s_X11_roots_l31_st m s.1 s.2.1 s.2.2) (W 0 + 1).toNat (fun i s => ∃ I', s = (rsB (W 0) F i, (i : Int), ((sh, I', J) : Me)) ∧ RF m (fun q => q = 43) I2 I')
      (fun r => ∃ I', r = (rsB (W 0) F (W 0 + 1).toNat, ((sh, I', J) : Me)) ∧ RF m (fun q => q = 43) I2 I') ?_ ?_ (0, 0, (sh, I2, J)) ⟨_, rfl, RF.refl⟩
    · obtain ⟨r, hr, I', hr2, k2⟩ := hlp
      rw [hr, hr2]
      exact ⟨_, _, rfl, f3.hk.trans k2.hk, HJ.refl⟩
    · rintro i s hi ⟨I4, rfl, k4⟩
      have hw4 : I4 (m + 1) = W := by rw [k4.w, hw3]
      have hI4 : I4 (m + 1) 0 = W 0 := by rw [hw4]
      have r4 := r3.keep k4 (by omega) (by omega) (by omega) (by omega)
      have e4 := t_isN (J := J) T hp (r := 40) (by omega) (by omega) r4
      rw [show ((F.1 : Int) + 1).toNat = F.1 + 1 by omega] at e4
      unfold s_X11_roots_l31_st
      dsimp only
      simp (disch := omega) only [t_ck T, bsome, t_p T, hI4, w32_id (x := W 0), w32_id (x := (i : Int)), if_neg, e4, ifT]
      rcases (nzI_iff (W 0) F.2 (F.1 + 1)).1 with hn | hn
      · obtain ⟨I5, e5, f5⟩ := t_rt (J := J) T (p := W 0) hI4 hp (t := i) (by omega) (by omega) r4 hn
        have hrb := rtP_b (W 0) F i (by omega)
        rw [hn, if_pos (show w32 0 = 0 from rfl), e5, bsome]
        dsimp only
        rw [w32_id (by omega) (by omega)]
        by_cases h9 : rtP (W 0) F i ≤ 0
        · rw [if_pos h9]
          refine ⟨_, rfl, I5, ?_, k4.trans f5⟩
          show _ = (orI (rsB (W 0) F i) (if 0 < rtP (W 0) F i then slI 1 i else 0), _, _)
          rw [if_neg (by omega)]
          simp
        · rw [if_neg h9]
          refine ⟨_, rfl, I5, ?_, k4.trans f5⟩
          show _ = (orI (rsB (W 0) F i) (if 0 < rtP (W 0) F i then slI 1 i else 0), _, _)
          rw [if_pos (by omega)]
          simp
      · rw [hn, if_neg (show ¬ w32 1 = 0 by decide)]
        refine ⟨_, rfl, I4, ?_, k4⟩
        show _ = (orI (rsB (W 0) F i) (if 0 < rtP (W 0) F i then slI 1 i else 0), _, _)
        have : rtP (W 0) F i = 99 := if_pos hn
        rw [this, if_pos (by decide)]
        simp
    · rintro s ⟨I4, rfl, k4⟩
      have hI4 : I4 (m + 1) 0 = W 0 := by rw [k4.w, hw3]
      unfold s_X11_roots_l31_st
      dsimp only
      simp (disch := omega) only [t_ck T, bsome, t_p T, hI4, w32_id, if_pos, ifT]
      exact ⟨_, rfl, I4, rfl, k4⟩
  · rw [if_neg h] at e1
    unfold s_X11_roots
    simp (disch := omega) only [t_thr T, bsome, t_ck T, e1, t_if1 T, w32_id, if_neg, thr_thr, ifT]
    exact ⟨_, _, _, rfl, HK.refl, HJ.refl⟩
theorem t_empty (T : TL sh m) (hW : WI (I (m + 1))) {f : Int} (hf : i32 f) :
    ((0 ≤ f ∧ f < I (m + 1) 1) → QG (s_X11_empty m f (sh, I, J)) sh I J m (emB (I (m + 1) 0) (fF (I (m + 1)) f) (I (m + 1) 0 + 1).toNat)) ∧
    (¬(0 ≤ f ∧ f < I (m + 1) 1) → QB (s_X11_empty m f (sh, I, J)) sh I J m 1) := by
  obtain ⟨W, hw⟩ : ∃ W, I (m + 1) = W := ⟨_, rfl⟩
  rw [hw] at hW ⊢
  have hc := hW.c1
  have hp := hW.pp
  have hb := hp.b
  have h0 : thr I m 0 (m + 1) = W := by rw [thr_n (by omega), hw]
  have e1 := t_noF (I := thr I m 0) (J := J) T (by rw [h0]; exact hc) hf
  rw [h0] at e1
  refine ⟨fun h => ?_, fun h => ?_⟩
  · rw [if_pos h] at e1
    obtain ⟨I2, e3, r3, f3⟩ := t_takesF (I := thr I m 0) (J := J) T h0 hW (r := 40) (by omega) h.1 h.2
    have hw3 : I2 (m + 1) = W := by rw [f3.w, h0]
    have hI2 : I2 (m + 1) 0 = W 0 := by rw [hw3]
    have hF8 := (fF_1 (hW.f h.1 h.2)).2
    obtain ⟨F, hF⟩ : ∃ F, fF W f = F := ⟨_, rfl⟩
    rw [hF] at r3 hF8 ⊢
    have e4 := t_isN (J := J) T hp (r := 40) (by omega) (by omega) r3
    rw [show ((F.1 : Int) + 1).toNat = F.1 + 1 by omega] at e4
    unfold s_X11_empty
    simp (disch := omega) only [t_thr T, bsome, t_ck T, e1, t_if0, w32_id (x := 0), if_pos, e3, e4, ifT]
    rcases (nzI_iff (W 0) F.2 (F.1 + 1)).1 with hn | hn
    · rw [hn]
      unfold s_X11_empty_l36
      have hlp := whileO_upto (f := fun s : Int × Int × Me => s_X11_empty_l36_st m s.1 s.2.1 s.2.2) (W 0 + 1).toNat (fun i s => ∃ I', s = (emB (W 0) F i, (i : Int), ((sh, I', J) : Me)) ∧ RF m (fun q => q = 43) I2 I')
        (fun r => ∃ I', r = (emB (W 0) F (W 0 + 1).toNat, ((sh, I', J) : Me)) ∧ RF m (fun q => q = 43) I2 I') ?_ ?_ (0, 0, (sh, I2, J)) ⟨_, rfl, RF.refl⟩
      · obtain ⟨r, hr, I', hr2, k2⟩ := hlp
        rw [hr, hr2]
        exact ⟨_, _, rfl, f3.hk.trans k2.hk, HJ.refl⟩
      · rintro i s hi ⟨I4, rfl, k4⟩
        have hI4 : I4 (m + 1) 0 = W 0 := by rw [k4.w, hw3]
        have r4 := r3.keep k4 (by omega) (by omega) (by omega) (by omega)
        unfold s_X11_empty_l36_st
        dsimp only
        simp (disch := omega) only [t_ck T, bsome, t_p T, hI4, w32_id (x := W 0), w32_id (x := (i : Int)), if_neg, ifT]
        rcases emB_b (W 0) F i with he | he
        · left
          obtain ⟨I5, e5, f5⟩ := t_rt (J := J) T (p := W 0) hI4 hp (t := i) (by omega) (by omega) r4 hn
          have hrb := rtP_b (W 0) F i (by omega)
          have r5 := r4.keep f5 (by omega) (by omega) (by omega) (by omega)
          rw [he, if_pos (show w32 0 = 0 from rfl), e5, bsome]
          simp (disch := omega) only [bsome, t_ck T, t_gI T, t_pI T, t_gJ T, t_pJ T, tR_deg T, tA_deg T, tU_deg T, r5.1, w32_id]
          have hem : emB (W 0) F (i + 1) = if (F.1 : Int) < 2 * rtP (W 0) F i then 1 else 0 := if_neg (by rw [he]; decide)
          by_cases h9 : 2 * rtP (W 0) F i ≤ F.1
          · rw [if_pos h9]
            refine ⟨_, rfl, I5, ?_, k4.trans f5⟩
            rw [hem, if_neg (by omega)]
            simp
          · rw [if_neg h9]
            refine ⟨_, rfl, I5, ?_, k4.trans f5⟩
            rw [hem, if_pos (by omega)]
            simp
        · right
          rw [he, if_neg (show ¬ w32 1 = 0 by decide), bz2_m (Or.inr rfl), bsome]
          refine ⟨_, rfl, I4, ?_, k4⟩
          have := emB_up (W 0) F i he ((W 0 + 1).toNat - i)
          rw [show i + ((W 0 + 1).toNat - i) = (W 0 + 1).toNat by omega] at this
          rw [this]
      · rintro s ⟨I4, rfl, k4⟩
        have hI4 : I4 (m + 1) 0 = W 0 := by rw [k4.w, hw3]
        unfold s_X11_empty_l36_st
        dsimp only
        simp (disch := omega) only [t_ck T, bsome, t_p T, hI4, w32_id (x := W 0), w32_id (x := (((W 0 + 1).toNat : Nat) : Int)), if_pos, bz2_m (emB_b (W 0) F (W 0 + 1).toNat), ifT]
        exact ⟨_, rfl, I4, rfl, k4⟩
    · have hem : emB (W 0) F (W 0 + 1).toNat = 1 := by
        have h1 : emB (W 0) F 1 = 1 := by
          show (if emB (W 0) F 0 = 1 then 1 else if (F.1 : Int) < 2 * rtP (W 0) F (0 : Nat) then 1 else 0) = 1
          have : rtP (W 0) F (0 : Nat) = 99 := if_pos hn
          rw [this, if_neg (show ¬ emB (W 0) F 0 = 1 from (by show ¬ (0 : Int) = 1; decide)), if_pos (by omega)]
        have := emB_up (W 0) F 1 h1 ((W 0).toNat)
        rwa [show 1 + (W 0).toNat = (W 0 + 1).toNat by omega] at this
      rw [hn, hem, e_X11_empty_l36]
      unfold s_X11_empty_l36_st
      simp (disch := omega) only [t_ck T, bsome, t_p T, hI2, w32_id, if_neg, bz2_m, ifT]
      exact ⟨_, _, rfl, f3.hk, HJ.refl⟩
  · rw [if_neg h] at e1
    unfold s_X11_empty
    simp (disch := omega) only [t_thr T, bsome, t_ck T, e1, t_if1 T, w32_id, if_neg, thr_thr, ifT]
    exact ⟨_, _, _, rfl, HK.refl, HJ.refl⟩
end TRt
