/-! the component: reading, signs -/
set_option maxRecDepth 100000
section CR3
variable {sh sh1 sh2 sh' : Sh} {I I1 I2 I' J J1 J2 J' : Nat → Int → Int} {x : Nat} {B : Int → Int} {n a deep it : Int}
theorem sgV_d {B : Int → Int} (hB : okB B) {n a : Int} : (48 ≤ sgV B n a ∧ sgV B n a ≤ 57) ↔ isD B n (skS B n a) := by
  unfold sgV
  by_cases h : skS B n a < n
  · rw [if_pos h, anB (hB _)]
    have := hB (skS B n a)
    by_cases g : B (skS B n a) < 0
    · rw [if_pos g]
      exact ⟨fun e => by omega, fun e => by omega⟩
    · rw [if_neg g]
      exact ⟨fun e => ⟨h, e.1, e.2⟩, fun e => ⟨e.2.1, e.2.2⟩⟩
  · rw [if_neg h]
    exact ⟨fun e => by omega, fun e => absurd e.1 h⟩
/-- what one call of the reader has to give -/
def RdF (F : Nat → Nat → Int → Me → Option (Ex ⊕ (Nat × Me))) (x : Nat) (B : Int → Int) (n : Int) (tag : Nat) (G : Int → Int → Int → PR) (deep : Int) : Prop :=
  ∀ (sh : Sh) (I J : Nat → Int → Int) (a it : Int), PRE sh I x B n (if tag = 3 then a - 1 else a) deep it → (if tag = 3 then 1 else 0) ≤ a → a ≤ n → 0 ≤ it → it ≤ 40 → RdP (F tag (x + 1) (if tag = 3 then a - 1 else 0) (sh, I, J)) sh I J x B n (if tag = 3 then a - 1 else a) deep (G a deep it)
theorem pR1 {c q a1 : Nat} (hq : sh.2.1 q = c) : ((pR (sh, I, J) c q 0 a1).bind fun m2 => some m2) = some (shR sh q (upz (sh.2.2.2 q) 0 (some a1)), I, J) := by
  have h1 : pR (sh, I, J) c q 0 a1 = some (shR sh q (upz (sh.2.2.2 q) 0 (some a1)), I, J) := if_pos hq
  rw [h1, bsome]
theorem x_unit (hn : n ≤ 400) (hB : okB B) {F : Nat → Nat → Int → Me → Option (Ex ⊕ (Nat × Me))} {f : Nat} (hd : 0 ≤ deep ∧ deep ≤ 6) (h2 : deep < 6 → RdF F x B n 2 (prR true B n f 2) (deep + 1)) (h0 : deep < 6 → RdF F x B n 0 (prR true B n f 0) (deep + 1)) (h3 : RdF F x B n 3 (prR true B n f 3) deep)
    (P : PRE sh I x B n a deep it) (ha0 : 0 ≤ a) (ha1 : a ≤ n) (hi0 : 0 ≤ it) (hi1 : it ≤ 40) : RdP (s_X2_unit F (x + 1) (sh, I, J)) sh I J x B n a deep (unR B n (prR true B n f) a deep it) := by
  obtain ⟨⟨L, hb, hBD⟩, hr, hc1, hc2⟩ := id P
  obtain ⟨I1, e1, r1, f1⟩ := x2_sign (J := J) L hn hB hr ha0 ha1
  have sb := sgV_b hB n a
  have ss := skS_b (B := B) ha0 ha1 hn
  have s45 := sgV_c hB (n := n) (a := a) (c := 45) (by omega)
  have s40 := sgV_c hB (n := n) (a := a) (c := 40) (by omega)
  have s91 := sgV_c hB (n := n) (a := a) (c := 91) (by omega)
  have sd := sgV_d hB (n := n) (a := a)
  obtain ⟨v, hv⟩ : ∃ v, sgV B n a = v := ⟨_, rfl⟩
  obtain ⟨s, hs⟩ : ∃ s, skS B n a = s := ⟨_, rfl⟩
  have ids : skS B n s = s := by rw [← hs]; exact skS_id (by rw [hs] at ss ⊢; exact ss.2.2)
  rw [hv] at e1 sb s45 s40 s91 sd
  rw [hs] at r1 ss s45 s40 s91 sd
  have h5 : I1 (x + 1) 5 = s := r1.1.2
  have X1 : XR x sh I J sh I1 J 0 := XR.fr hBD f1
  have P1 : PRE sh I1 x B n s deep it := P.step X1 (by omega) ss.2.1 r1
  unfold s_X2_unit unR
  rw [r_ck L, bsome, e1, bsome]
  dsimp only
  rw [r_gI L, bsome, h5, hs, w32_id (x := v) (by omega) (by omega), show w32 48 = 48 from rfl, show w32 57 = 57 from rfl]
  -- how deep, and the sign's place is left
  obtain ⟨en1, en2⟩ := x2_enters (J := J) L r1 (pl := s) hd
  by_cases cd : isD B n s
  · have vd := sd.mpr cd
    rw [if_neg (by omega), if_neg (by omega), if_neg (fun g => by have := s45.mpr g; omega), if_neg (fun g => by have := s40.mpr g; omega), if_neg (fun g => by have := s91.mpr g; omega), if_pos cd, r_ck L, bsome]
    obtain ⟨g1, g2⟩ := x2_counts (J := J) L r1 (pl := s) ⟨hi0, hi1⟩
    by_cases ci : it = 40
    · rw [if_pos ci]
      exact (RdP.fail (a := s) hBD ((g1 ci).to) ss.2.1).pre X1 (by omega)
    · rw [if_neg ci, g2 ci, xb_r]
      have r2 := r1.w7 (it + 1)
      obtain ⟨I2, hI2⟩ : ∃ I2, up1 I1 (x + 1) (upz (I1 (x + 1)) 7 (it + 1)) = I2 := ⟨_, rfl⟩
      have f2 : FRc x I1 I2 := by rw [← hI2]; exact FRc.put (Or.inr (Or.inr rfl))
      rw [hI2] at r2 ⊢
      rw [nO_m (by omega) (by omega), bsome]
      dsimp only
      have X3 := (XR.fr (J := J) hBD (f1.trans f2)).trans (XR.new (c := 10) (N := 1) (I := I2) (J := J) hBD hb (by omega) (by omega) (by omega))
      obtain ⟨A, hAe⟩ : ∃ A, sh.1.1 = A := ⟨_, rfl⟩
      obtain ⟨sh4, hs4⟩ : ∃ sh4, shNw sh 10 0 1 = sh4 := ⟨_, rfl⟩
      obtain ⟨J4, hJ4⟩ : ∃ J4, up1 J sh.1.1 (fun _ => 0) = J4 := ⟨_, rfl⟩
      obtain ⟨I4, hI4⟩ : ∃ I4, up1 I2 sh.1.1 (fun _ => 0) = I4 := ⟨_, rfl⟩
      have t4 : sh4.2.1 A = 10 := by rw [← hs4, ← hAe]; exact up1_s _ _ _
      have a4 : sh4.1.1 = A + 1 := by rw [← hs4, ← hAe]; rfl
      rw [hs4, hI4, hJ4] at X3 ⊢
      rw [hAe]
      have r4 : RC I4 x B n s deep (it + 1) := by rw [← hI4]; exact r2.new hb (Nat.le_refl _)
      have L4 : CL sh4 x := X3.cl L hb
      have hBD4 : BD sh4 := X3.2.2.2.2
      obtain ⟨n1, n2⟩ := x2_number (J := J4) L4 hn hB r4 (by omega) ss.2.1 (most := 999) (by omega)
      rw [r_ck L4, bsome]
      cases hN : nmS B n 999 s with
      | inl pl =>
        obtain ⟨I', q1, q2, q3⟩ := n1 pl hN
        rw [q1, xb_l]
        exact ⟨sh4, I', J4, 0 + 1 + 0, rfl, q2, X3.trans (XR.fr hBD4 q3), by have := cd.1; omega⟩
      | inr r =>
        obtain ⟨w, e⟩ := r
        obtain ⟨I5, q1, q2, q3⟩ := n2 (w, e) hN
        obtain ⟨-, -, m3, m4⟩ := nmS_ok (by omega) ss.2.1 hn hN
        rw [q1, xb_r]
        have ini : s_X12_init A w (sh4, I5, J4) = some (sh4, up1 I5 A (upz (I5 A) 0 w), J4) := by
          unfold s_X12_init s_X3_init
          rw [bsome, pI_m t4, bsome]
        dsimp only
        rw [ini, bsome]
        have X5 := (X3.trans (XR.fr (J := J4) hBD4 q3)).fillI (g := upz (I5 A) 0 w) (q := A) (by omega) hb
        exact ⟨sh4, _, J4, 0 + 1 + 0, A, rfl, ⟨t4, by show up1 I5 A (upz (I5 A) 0 w) A 0 = w; rw [up1_s, upz_s]⟩, q2.new (sh := sh) hb (by omega), X5, by show ((0 + 1 + 0 : Nat) : Int) ≤ e - a; omega, by show 1 + 1 ≤ 2 * 1 + 0; omega⟩
  · -- no digit
    have e42 : (if v < 48 then s_X2_unit_b42 F (x + 1) v s (sh, I1, J) else if 57 < v then s_X2_unit_b42 F (x + 1) v s (sh, I1, J) else (ck (sh, I1, J) 1 (x + 1)).bind fun _ => xb (s_X2_counts (x + 1) s (sh, I1, J)) (fun e45 => some (.inl e45)) fun q44 => (nO q44 10 1).bind fun q47 => (ck q47.2 1 (x + 1)).bind fun _ => xb (s_X2_number (x + 1) 999 q47.2) (fun e49 => some (.inl e49)) fun q48 => (s_X12_init q47.1 q48.1 q48.2).bind fun q51 => some (.inr (q47.1, q51))) = s_X2_unit_b42 F (x + 1) v s (sh, I1, J) := by
      by_cases c1 : v < 48
      · rw [if_pos c1]
      · rw [if_neg c1, if_pos (by
          by_cases c2 : 57 < v
          · exact c2
          · exact absurd (sd.mp ⟨by omega, by omega⟩) cd)]
    refine RdP.pre (a' := s) ?_ X1 (by omega)
    rw [e42]
    unfold s_X2_unit_b42
    rw [w32_id (x := v) (by omega) (by omega), show w32 45 = 45 from rfl, show w32 40 = 40 from rfl, show w32 91 = 91 from rfl]
    by_cases c45 : s < n ∧ B s = 45
    · rw [if_pos (s45.mpr c45), if_pos c45]
      unfold s_X2_unit_b54
      rw [r_ck L, bsome]
      by_cases c6 : deep = 6
      · rw [if_pos c6]
        exact RdP.fail hBD ((en1 c6).to) ss.2.1
      · rw [if_neg c6, en2 c6, xb_r]
        have r2 := r1.w6 (deep + 1)
        obtain ⟨I2, hI2⟩ : ∃ I2, up1 I1 (x + 1) (upz (I1 (x + 1)) 6 (deep + 1)) = I2 := ⟨_, rfl⟩
        have f2 : FRc x I1 I2 := by rw [← hI2]; exact FRc.put (Or.inr (Or.inl rfl))
        rw [hI2] at r2 ⊢
        have h52 : I2 (x + 1) 5 = s := r2.1.2
        rw [r_gI L, bsome, r_pI L, bsome, h52]
        have r3 := r2.w5 (s + 1)
        obtain ⟨I3, hI3⟩ : ∃ I3, up1 I2 (x + 1) (upz (I2 (x + 1)) 5 (s + 1)) = I3 := ⟨_, rfl⟩
        have f3 : FRc x I2 I3 := by rw [← hI3]; exact FRc.put (Or.inl rfl)
        rw [hI3] at r3 ⊢
        rw [w32_id (x := v) (by omega) (by omega), show w32 45 = 45 from rfl, if_pos (s45.mpr c45), nO_m (by omega) (by omega), bsome]
        dsimp only
        have X4 := (XR.fr (J := J) hBD (f2.trans f3)).trans (XR.new (c := 11) (N := 1) (I := I3) (J := J) hBD hb (by omega) (by omega) (by omega))
        obtain ⟨A, hAe⟩ : ∃ A, sh.1.1 = A := ⟨_, rfl⟩
        obtain ⟨sh4, hs4⟩ : ∃ sh4, shNw sh 11 0 1 = sh4 := ⟨_, rfl⟩
        obtain ⟨J4, hJ4⟩ : ∃ J4, up1 J sh.1.1 (fun _ => 0) = J4 := ⟨_, rfl⟩
        obtain ⟨I4, hI4⟩ : ∃ I4, up1 I3 sh.1.1 (fun _ => 0) = I4 := ⟨_, rfl⟩
        have t4 : sh4.2.1 A = 11 ∧ sh4.2.2.2 A = fun _ => none := by rw [← hs4, ← hAe]; exact ⟨up1_s _ _ _, up1_s _ _ _⟩
        have a4 : sh4.1.1 = A + 1 := by rw [← hs4, ← hAe]; rfl
        rw [hs4, hI4, hJ4] at X4 ⊢
        rw [hAe]
        have r4 : RC I4 x B n (s + 1) (deep + 1) it := by rw [← hI4]; exact r3.new hb (Nat.le_refl _)
        have P4 : PRE sh4 I4 x B n (s + 1) (deep + 1) it := P1.step X4 (by omega) (by omega) r4
        have L4 := P4.1.1
        have hR := h2 (by omega) sh4 I4 J4 (s + 1) it P4 (by show (0 : Int) ≤ s + 1; omega) (by omega) hi0 hi1
        replace hR : RdP (F 2 (x + 1) 0 (sh4, I4, J4)) sh4 I4 J4 x B n (s + 1) (deep + 1) (prR true B n f 2 (s + 1) (deep + 1) it) := hR
        rw [r_ck L4, bsome]
        cases hGe : prR true B n f 2 (s + 1) (deep + 1) it with
        | inl pl =>
          rw [hGe] at hR
          obtain ⟨sh5, I5, J5, k5, q1, q2, q3, q4⟩ := hR
          rw [q1, xb_l]
          exact ⟨sh5, I5, J5, 0 + 1 + k5, rfl, q2, X4.trans q3, by omega⟩
        | inr r =>
          have ok := prR_ok hn f 2 (s + 1) (deep + 1) it (by omega) (by omega) (by omega) ⟨hi0, hi1⟩ r hGe
          rw [hGe] at hR
          obtain ⟨sh5, I5, J5, k5, q5, q1, q2, q3, q4, q6, q7⟩ := hR
          have t5 := q4.2.1 A (by omega)
          have t5a : sh5.2.1 A = 11 := t5.1.trans t4.1
          have t5b : sh5.2.2.2 A = fun _ => none := t5.2.2.trans t4.2
          have X5 := (X4.trans q4).fill (g := upz (sh5.2.2.2 A) 0 (some q5)) (q := A) (by omega)
          obtain ⟨sh6, hs6⟩ : ∃ sh6, shR sh5 A (upz (sh5.2.2.2 A) 0 (some q5)) = sh6 := ⟨_, rfl⟩
          have ini : s_X13_init A q5 (sh5, I5, J5) = some (sh6, I5, J5) := by
            unfold s_X13_init s_X3_init
            rw [bsome, pR1 t5a, hs6]
          have sA6 : SA sh6 I5 (tMi r.1).1 (tMi r.1).2 A := by
            rw [← hs6]
            exact ⟨t5a, q5, by show up1 sh5.2.2.2 A _ A 0 = _; rw [up1_s, upz_s], SA.ref t5b (by omega) (fun b _ => rfl) _ _ _ q2⟩
          rw [hs6] at X5
          have L6 : CL sh6 x := X5.cl L hb
          have hBD6 : BD sh6 := X5.2.2.2.2
          have g6 : I5 (x + 1) 6 = deep + 1 := q3.2.1.1
          rw [q1, xb_r]
          dsimp only
          rw [ini, bsome]
          unfold s_X2_unit_b93
          rw [w32_id (x := v) (by omega) (by omega), show w32 40 = 40 from rfl, if_neg (by have := s45.mpr c45; omega), r_gI L6, bsome, r_pI L6, bsome, g6, show deep + 1 - 1 = deep by omega]
          have X7 := X5.trans (XR.fr (J := J5) hBD6 (FRc.put (I := I5) (k := 6) (v := deep) (Or.inr (Or.inl rfl))))
          refine ⟨sh6, _, J5, _, A, rfl, (XR.fr (J := J5) hBD6 (FRc.put (I := I5) (k := 6) (v := deep) (Or.inr (Or.inl rfl)))).sa L6 hBD6 sA6, q3.w6 deep, X7, ?_, ?_⟩
          · show ((0 + 1 + k5 + 0 : Nat) : Int) ≤ r.2.1 - s
            omega
          · show r.1.1 + 1 + 1 ≤ 2 * lvs r.1 + (mis r.1 + 1)
            omega
    · rw [if_neg (fun g => c45 (s45.mp g)), if_neg c45]
      by_cases c40 : s < n ∧ B s = 40
      · rw [if_pos (s40.mpr c40), if_pos c40]
        unfold s_X2_unit_b54
        rw [r_ck L, bsome]
        by_cases c6 : deep = 6
        · rw [if_pos c6]
          exact RdP.fail hBD ((en1 c6).to) ss.2.1
        · rw [if_neg c6, en2 c6, xb_r]
          have r2 := r1.w6 (deep + 1)
          obtain ⟨I2, hI2⟩ : ∃ I2, up1 I1 (x + 1) (upz (I1 (x + 1)) 6 (deep + 1)) = I2 := ⟨_, rfl⟩
          have f2 : FRc x I1 I2 := by rw [← hI2]; exact FRc.put (Or.inr (Or.inl rfl))
          rw [hI2] at r2 ⊢
          have h52 : I2 (x + 1) 5 = s := r2.1.2
          rw [r_gI L, bsome, r_pI L, bsome, h52]
          have r3 := r2.w5 (s + 1)
          obtain ⟨I3, hI3⟩ : ∃ I3, up1 I2 (x + 1) (upz (I2 (x + 1)) 5 (s + 1)) = I3 := ⟨_, rfl⟩
          have f3 : FRc x I2 I3 := by rw [← hI3]; exact FRc.put (Or.inl rfl)
          rw [hI3] at r3 ⊢
          have X4 : XR x sh I1 J sh I3 J 0 := XR.fr hBD (f2.trans f3)
          have P4 : PRE sh I3 x B n (s + 1) (deep + 1) it := P1.step X4 (by omega) (by omega) r3
          have hR := h0 (by omega) sh I3 J (s + 1) it P4 (by show (0 : Int) ≤ s + 1; omega) (by omega) hi0 hi1
          replace hR : RdP (F 0 (x + 1) 0 (sh, I3, J)) sh I3 J x B n (s + 1) (deep + 1) (prR true B n f 0 (s + 1) (deep + 1) it) := hR
          rw [w32_id (x := v) (by omega) (by omega), show w32 45 = 45 from rfl, if_neg (fun g => c45 (s45.mp g)), r_ck L, bsome]
          cases hGe : prR true B n f 0 (s + 1) (deep + 1) it with
          | inl pl =>
            rw [hGe] at hR
            obtain ⟨sh5, I5, J5, k5, q1, q2, q3, q4⟩ := hR
            rw [q1, xb_l]
            exact ⟨sh5, I5, J5, 0 + k5, rfl, q2, X4.trans q3, by omega⟩
          | inr r =>
            have ok := prR_ok hn f 0 (s + 1) (deep + 1) it (by omega) (by omega) (by omega) ⟨hi0, hi1⟩ r hGe
            rw [hGe] at hR
            obtain ⟨sh5, I5, J5, k5, q5, q1, q2, q3, q4, q6, q7⟩ := hR
            have X5 := X4.trans q4
            have L5 : CL sh5 x := X5.cl L hb
            have hBD5 : BD sh5 := X5.2.2.2.2
            have okb := ok.2.1
            obtain ⟨ex1, ex2⟩ := x2_expect (J := J5) L5 hn hB q3 (by omega) okb.2 (c := 41) (by omega)
            have s5 := skS_b (B := B) (n := n) (a := r.2.1) (by omega) okb.2 hn
            rw [q1, xb_r]
            dsimp only
            unfold s_X2_unit_b93
            rw [w32_id (x := v) (by omega) (by omega), show w32 40 = 40 from rfl, if_pos (s40.mpr c40), r_ck L5, bsome]
            show RdP _ sh I1 J x B n s deep (if skS B n r.2.1 < n ∧ B (skS B n r.2.1) = 41 then (.inr (r.1, skS B n r.2.1 + 1, r.2.2) : PR) else .inl (skS B n r.2.1))
            by_cases c41 : skS B n r.2.1 < n ∧ B (skS B n r.2.1) = 41
            · obtain ⟨I6, w1, w2, w3⟩ := ex1 c41
              have g6 : I6 (x + 1) 6 = deep + 1 := w2.2.1.1
              rw [if_pos c41, w1, xb_r, r_gI L5, bsome, r_pI L5, bsome, g6, show deep + 1 - 1 = deep by omega]
              have fr6 : FRc x I5 _ := w3.trans (FRc.put (I := I6) (k := 6) (v := deep) (Or.inr (Or.inl rfl)))
              refine ⟨sh5, _, J5, _, q5, rfl, (XR.fr (J := J5) hBD5 fr6).sa L5 hBD5 q2, w2.w6 deep, X5.trans (XR.fr hBD5 fr6), ?_, q7⟩
              show ((0 + k5 + 0 : Nat) : Int) ≤ skS B n r.2.1 + 1 - s
              omega
            · obtain ⟨I6, w1, w2, w3⟩ := ex2 c41
              rw [if_neg c41, w1, xb_l]
              exact ⟨sh5, I6, J5, 0 + k5 + 0, rfl, w2, X5.trans (XR.fr hBD5 w3), by omega⟩
      · rw [if_neg (fun g => c40 (s40.mp g)), if_neg c40]
        by_cases c91 : s < n ∧ B s = 91
        · rw [if_pos (s91.mpr c91), if_pos c91, r_ck L, bsome]
          have P3 : PRE sh I1 x B n (s + 1 - 1) deep it := by rw [show s + 1 - 1 = s by omega]; exact P1
          have hR := h3 sh I1 J (s + 1) it P3 (by show (1 : Int) ≤ s + 1; omega) (by omega) hi0 hi1
          replace hR : RdP (F 3 (x + 1) (s + 1 - 1) (sh, I1, J)) sh I1 J x B n (s + 1 - 1) deep (prR true B n f 3 (s + 1) deep it) := hR
          rw [show s + 1 - 1 = s by omega] at hR
          cases hGe : prR true B n f 3 (s + 1) deep it with
          | inl pl =>
            rw [hGe] at hR
            obtain ⟨sh5, I5, J5, k5, q1, q2⟩ := hR
            exact ⟨sh5, I5, J5, k5, by rw [q1, xb_l], q2⟩
          | inr r =>
            rw [hGe] at hR
            obtain ⟨sh5, I5, J5, k5, q5, q1, q2⟩ := hR
            exact ⟨sh5, I5, J5, k5, q5, by rw [q1, xb_r], q2⟩
        · rw [if_neg (fun g => c91 (s91.mp g)), if_neg c91, if_neg cd, r_ck L, bsome]
          obtain ⟨tf1, tf2⟩ := x2_takesF (J := J) L hn hB r1 (by omega) ss.2.1
          rw [ids] at tf1 tf2
          by_cases cf : (s < n ∧ B s = 102) ∧ ¬(s + 1 < n ∧ 97 ≤ B (s + 1) ∧ B (s + 1) ≤ 122)
          · obtain ⟨I2, w1, w2, w3⟩ := tf1 cf
            obtain ⟨g1, g2⟩ := x2_counts (J := J) L w2 (pl := s) ⟨hi0, hi1⟩
            rw [w1, bsome]
            dsimp only
            rw [if_neg (show ¬ w32 1 = 0 by decide)]
            unfold s_X2_unit_b142
            rw [r_ck L, bsome]
            by_cases ci : it = 40
            · rw [if_neg (fun g => g.2.2 ci)]
              exact (RdP.fail (a := s) hBD ((g1 ci).to) ss.2.1).pre (a := s) (XR.fr hBD w3) (by omega)
            · rw [if_pos ⟨cf.1, cf.2, ci⟩, g2 ci, xb_r, (r_it L).1, bsome]
              have fr : FRc x I1 _ := w3.trans (FRc.put (I := I2) (k := 7) (v := it + 1) (Or.inr (Or.inr rfl)))
              exact ⟨sh, _, J, 0, x + 3, rfl, (r_it (I := I) (J := J) L).2, w2.w7 (it + 1), XR.fr hBD fr, by show ((0 : Nat) : Int) ≤ s + 1 - s; omega, by show 1 + 1 ≤ 2 * 1 + 0; omega⟩
          · obtain ⟨I2, w1, w3⟩ := tf2 cf
            rw [w1, bsome]
            dsimp only
            rw [if_pos (show w32 0 = 0 from rfl), if_neg (fun g => cf ⟨g.1, g.2.1⟩), r_ck L, bsome]
            exact (RdP.fail (a := s) hBD ((x2_fail L).to) ss.2.1).pre (a := s) (XR.fr hBD w3) (by omega)
theorem x_ovl (hn : n ≤ 400) (hB : okB B) {F : Nat → Nat → Int → Me → Option (Ex ⊕ (Nat × Me))} {f : Nat} (hd : 0 ≤ deep ∧ deep ≤ 6) (h0 : deep < 6 → RdF F x B n 0 (prR true B n f 0) (deep + 1))
    (P : PRE sh I x B n (a - 1) deep it) (ha0 : 1 ≤ a) (ha1 : a ≤ n) (hi0 : 0 ≤ it) (hi1 : it ≤ 40) : RdP (s_X2_overlap F (x + 1) (a - 1) (sh, I, J)) sh I J x B n (a - 1) deep (ovR B n (prR true B n f) a deep it) := by
  obtain ⟨⟨L, hb, hBD⟩, hr, hc1, hc2⟩ := id P
  obtain ⟨g1, g2⟩ := x2_counts (J := J) L hr (pl := a - 1) ⟨hi0, hi1⟩
  unfold s_X2_overlap ovR
  rw [r_ck L, bsome]
  by_cases ci : it = 40
  · rw [if_pos (Or.inl ci)]
    exact RdP.fail hBD ((g1 ci).to) (by omega)
  rw [g2 ci, xb_r]
  have r1 := hr.w7 (it + 1)
  obtain ⟨I1, hI1⟩ : ∃ I1, up1 I (x + 1) (upz (I (x + 1)) 7 (it + 1)) = I1 := ⟨_, rfl⟩
  have f1 : FRc x I I1 := by rw [← hI1]; exact FRc.put (Or.inr (Or.inr rfl))
  rw [hI1] at r1 ⊢
  obtain ⟨en1, en2⟩ := x2_enters (J := J) L r1 (pl := a - 1) hd
  rw [r_ck L, bsome]
  by_cases c6 : deep = 6
  · rw [if_pos (Or.inr c6)]
    exact (RdP.fail (a := a - 1) hBD ((en1 c6).to) (by omega)).pre (XR.fr hBD f1) (by omega)
  rw [if_neg (show ¬(it = 40 ∨ deep = 6) by omega), en2 c6, xb_r]
  have r2 := r1.w6 (deep + 1)
  obtain ⟨I2, hI2⟩ : ∃ I2, up1 I1 (x + 1) (upz (I1 (x + 1)) 6 (deep + 1)) = I2 := ⟨_, rfl⟩
  have f2 : FRc x I1 I2 := by rw [← hI2]; exact FRc.put (Or.inr (Or.inl rfl))
  rw [hI2] at r2 ⊢
  have h52 : I2 (x + 1) 5 = a - 1 := r2.1.2
  rw [r_gI L, bsome, r_pI L, bsome, h52, show a - 1 + 1 = a by omega]
  have r3 := r2.w5 a
  obtain ⟨I3, hI3⟩ : ∃ I3, up1 I2 (x + 1) (upz (I2 (x + 1)) 5 a) = I3 := ⟨_, rfl⟩
  have f3 : FRc x I2 I3 := by rw [← hI3]; exact FRc.put (Or.inl rfl)
  rw [hI3] at r3 ⊢
  have X3 : XR x sh I J sh I3 J 0 := XR.fr hBD ((f1.trans f2).trans f3)
  have P3 : PRE sh I3 x B n a (deep + 1) (it + 1) := P.step X3 (by omega) ha1 r3
  have hR := h0 (by omega) sh I3 J a (it + 1) P3 (by show (0 : Int) ≤ a; omega) ha1 (by omega) (by omega)
  replace hR : RdP (F 0 (x + 1) 0 (sh, I3, J)) sh I3 J x B n a (deep + 1) (prR true B n f 0 a (deep + 1) (it + 1)) := hR
  rw [r_ck L, bsome]
  cases hGe : prR true B n f 0 a (deep + 1) (it + 1) with
  | inl pl =>
    rw [hGe] at hR
    obtain ⟨sh5, I5, J5, k5, q1, q2, q3, q4⟩ := hR
    rw [q1, xb_l]
    exact ⟨sh5, I5, J5, 0 + k5, rfl, q2, X3.trans q3, by omega⟩
  | inr r =>
    have ok := prR_ok hn f 0 a (deep + 1) (it + 1) (by omega) ha1 (by omega) ⟨by omega, by omega⟩ r hGe
    rw [hGe] at hR
    obtain ⟨sh5, I5, J5, k5, q5, q1, q2, q3, q4, q6, q7⟩ := hR
    have X5 := X3.trans q4
    have L5 : CL sh5 x := X5.cl L hb
    have hBD5 : BD sh5 := X5.2.2.2.2
    have okb := ok.2.1
    have oki := ok.2.2
    have lr := lvs_pos r.1
    obtain ⟨ex1, ex2⟩ := x2_expect (J := J5) L5 hn hB q3 (by omega) okb.2 (c := 44) (by omega)
    have s5 := skS_b (B := B) (n := n) (a := r.2.1) (by omega) okb.2 hn
    rw [q1, xb_r]
    dsimp only
    rw [r_ck L5, bsome]
    show RdP _ sh I J x B n (a - 1) deep (if skS B n r.2.1 < n ∧ B (skS B n r.2.1) = 44 then (prR true B n f 0 (skS B n r.2.1 + 1) (deep + 1) r.2.2).elim .inl (fun w => if skS B n w.2.1 < n ∧ B (skS B n w.2.1) = 93 then (nmS B n 8 (skS B n w.2.1 + 1)).elim .inl (fun v => .inr (tPr (4, v.1) r.1 w.1, v.2, w.2.2)) else .inl (skS B n w.2.1)) else (.inl (skS B n r.2.1) : PR))
    by_cases c44 : skS B n r.2.1 < n ∧ B (skS B n r.2.1) = 44
    · obtain ⟨I6, w1, w2, w3⟩ := ex1 c44
      have X6 := X5.trans (XR.fr (J := J5) hBD5 w3)
      rw [if_pos c44, w1, xb_r, r_ck L5, bsome]
      have P6 : PRE sh5 I6 x B n (skS B n r.2.1 + 1) (deep + 1) r.2.2 := P.step X6 (by omega) (by omega) w2
      have hR2 := h0 (by omega) sh5 I6 J5 (skS B n r.2.1 + 1) r.2.2 P6 (by show (0 : Int) ≤ skS B n r.2.1 + 1; omega) (by omega) (by omega) oki.2.1
      replace hR2 : RdP (F 0 (x + 1) 0 (sh5, I6, J5)) sh5 I6 J5 x B n (skS B n r.2.1 + 1) (deep + 1) (prR true B n f 0 (skS B n r.2.1 + 1) (deep + 1) r.2.2) := hR2
      cases hGe2 : prR true B n f 0 (skS B n r.2.1 + 1) (deep + 1) r.2.2 with
      | inl pl =>
        rw [hGe2] at hR2
        obtain ⟨sh7, I7, J7, k7, y1, y2, y3, y4⟩ := hR2
        rw [y1, xb_l]
        exact ⟨sh7, I7, J7, 0 + k5 + 0 + k7, rfl, y2, X6.trans y3, by omega⟩
      | inr w =>
        have okw := prR_ok hn f 0 (skS B n r.2.1 + 1) (deep + 1) r.2.2 (by omega) (by omega) (by omega) ⟨by omega, oki.2.1⟩ w hGe2
        rw [hGe2] at hR2
        obtain ⟨sh7, I7, J7, k7, q7b, y1, y2, y3, y4, y6, y7⟩ := hR2
        have X7 := X6.trans y4
        have L7 : CL sh7 x := X7.cl L hb
        have hBD7 : BD sh7 := X7.2.2.2.2
        have okwb := okw.2.1
        have lw := lvs_pos w.1
        have s7 := skS_b (B := B) (n := n) (a := w.2.1) (by omega) okwb.2 hn
        obtain ⟨ex3, ex4⟩ := x2_expect (J := J7) L7 hn hB y3 (by omega) okwb.2 (c := 93) (by omega)
        rw [y1, xb_r]
        dsimp only
        rw [r_ck L7, bsome]
        show RdP _ sh I J x B n (a - 1) deep (if skS B n w.2.1 < n ∧ B (skS B n w.2.1) = 93 then (nmS B n 8 (skS B n w.2.1 + 1)).elim .inl (fun v => .inr (tPr (4, v.1) r.1 w.1, v.2, w.2.2)) else (.inl (skS B n w.2.1) : PR))
        by_cases c93 : skS B n w.2.1 < n ∧ B (skS B n w.2.1) = 93
        · obtain ⟨I8, z1, z2, z3⟩ := ex3 c93
          have g6 : I8 (x + 1) 6 = deep + 1 := z2.2.1.1
          rw [if_pos c93, z1, xb_r, r_gI L7, bsome, r_pI L7, bsome, g6, show deep + 1 - 1 = deep by omega]
          have z4 := z2.w6 deep
          obtain ⟨I9, hI9⟩ : ∃ I9, up1 I8 (x + 1) (upz (I8 (x + 1)) 6 deep) = I9 := ⟨_, rfl⟩
          have f9 : FRc x I8 I9 := by rw [← hI9]; exact FRc.put (Or.inr (Or.inl rfl))
          rw [hI9] at z4 ⊢
          have X9 := X7.trans (XR.fr (J := J7) hBD7 (z3.trans f9))
          have P9 : PRE sh7 I9 x B n (skS B n w.2.1 + 1) deep w.2.2 := P.step X9 (by omega) (by omega) z4
          have rs9 := P9.2.2
          have hb7 := P9.1.2.1
          rw [nO_m (by omega) (by omega), bsome]
          dsimp only
          have X10 := X9.trans (XR.new (c := 12) (N := 3) (I := I9) (J := J7) hBD7 hb7 (by omega) (by omega) (by omega))
          obtain ⟨A, hAe⟩ : ∃ A, sh7.1.1 = A := ⟨_, rfl⟩
          obtain ⟨sh4, hs4⟩ : ∃ sh4, shNw sh7 12 0 3 = sh4 := ⟨_, rfl⟩
          obtain ⟨J4, hJ4⟩ : ∃ J4, up1 J7 sh7.1.1 (fun _ => 0) = J4 := ⟨_, rfl⟩
          obtain ⟨I4, hI4⟩ : ∃ I4, up1 I9 sh7.1.1 (fun _ => 0) = I4 := ⟨_, rfl⟩
          have t4 : sh4.2.1 A = 12 ∧ sh4.2.2.2 A = fun _ => none := by rw [← hs4, ← hAe]; exact ⟨up1_s _ _ _, up1_s _ _ _⟩
          have a7 := X7.1.1
          rw [hs4, hI4, hJ4] at X10 ⊢
          rw [hAe]
          have r4 : RC I4 x B n (skS B n w.2.1 + 1) deep w.2.2 := by rw [← hI4]; exact z4.new hb7 (Nat.le_refl _)
          have L4 : CL sh4 x := X10.cl L hb
          have hBD4 : BD sh4 := X10.2.2.2.2
          obtain ⟨n1, n2⟩ := x2_number (J := J4) L4 hn hB r4 (by omega) (by omega) (most := 8) (by omega)
          rw [r_ck L4, bsome]
          cases hN : nmS B n 8 (skS B n w.2.1 + 1) with
          | inl pl =>
            obtain ⟨I', u1, u2, u3⟩ := n1 pl hN
            rw [u1, xb_l]
            exact ⟨sh4, I', J4, 0 + k5 + 0 + k7 + 0 + 1 + 0, rfl, u2, X10.trans (XR.fr hBD4 u3), by omega⟩
          | inr v =>
            obtain ⟨v, e⟩ := v
            obtain ⟨I5b, u1, u2, u3⟩ := n2 (v, e) hN
            obtain ⟨v1, v2, v3, v4⟩ := nmS_ok (by omega) (by omega) hn hN
            rw [u1, xb_r]
            have sA1 : SA sh4 I5b r.1.1 r.1.2 q5 := by
              have c1 := (XR.fr (J := J5) hBD5 w3).sa L5 hBD5 q2
              have c2 := y4.sa L5 hBD5 c1
              have c3 := (XR.fr (J := J7) hBD7 (z3.trans f9)).sa L7 hBD7 c2
              have c4 := (XR.new (c := 12) (N := 3) (I := I9) (J := J7) hBD7 hb7 (by omega) (by omega) (by omega)).sa L7 hBD7 c3
              rw [hs4, hI4] at c4
              exact (XR.fr (J := J4) hBD4 u3).sa L4 hBD4 c4
            have sA2 : SA sh4 I5b w.1.1 w.1.2 q7b := by
              have c3 := (XR.fr (J := J7) hBD7 (z3.trans f9)).sa L7 hBD7 y2
              have c4 := (XR.new (c := 12) (N := 3) (I := I9) (J := J7) hBD7 hb7 (by omega) (by omega) (by omega)).sa L7 hBD7 c3
              rw [hs4, hI4] at c4
              exact (XR.fr (J := J4) hBD4 u3).sa L4 hBD4 c4
            have ini : s_X15_init A q5 q7b v (sh4, I5b, J4) = some (shR sh4 A (upz (upz (sh4.2.2.2 A) 0 (some q5)) 1 (some q7b)), up1 I5b A (upz (I5b A) 2 v), J4) := by
              unfold s_X15_init s_X14_init_p12 s_X3_init
              rw [bsome, pR2 t4.1, bsome, pI_m (show (shR sh4 A (upz (upz (sh4.2.2.2 A) 0 (some q5)) 1 (some q7b))).2.1 A = 12 from t4.1), bsome]
            have X11 := ((X10.trans (XR.fr (J := J4) hBD4 u3)).fill (g := upz (upz (sh4.2.2.2 A) 0 (some q5)) 1 (some q7b)) (q := A) (by omega)).fillI (g := upz (I5b A) 2 v) (q := A) (by omega) hb
            have sP := SA.pair (o := (4, v)) (I' := up1 I5b A (upz (I5b A) 2 v)) t4.2 (by rw [t4.1]; rfl) (fun b hb9 => up1_n _ _ hb9) (fun _ => by rw [up1_s, upz_s]) sA1 sA2
            dsimp only
            rw [ini, bsome]
            refine ⟨_, _, J4, _, A, rfl, sP, u2.new (sh := sh) hb (by omega), X11, ?_, ht_pr (4, v) q7 y7⟩
            show ((0 + k5 + 0 + k7 + 0 + 1 + 0 : Nat) : Int) ≤ e - (a - 1)
            omega
        · obtain ⟨I8, z1, z2, z3⟩ := ex4 c93
          rw [if_neg c93, z1, xb_l]
          exact ⟨sh7, I8, J7, 0 + k5 + 0 + k7 + 0, rfl, z2, X7.trans (XR.fr hBD7 z3), by omega⟩
    · obtain ⟨I6, w1, w2, w3⟩ := ex2 c44
      rw [if_neg c44, w1, xb_l]
      exact ⟨sh5, I6, J5, 0 + k5 + 0, rfl, w2, X5.trans (XR.fr hBD5 w3), by omega⟩
theorem x_rp (hn : n ≤ 400) (hB : okB B) : ∀ (f tag : Nat) (deep : Int), tag ≤ 3 → (0 ≤ deep ∧ deep ≤ 6) → (if tag = 0 then 4 else if tag = 1 then 3 else if tag = 2 then 2 else 1) + 4 * (6 - deep).toNat ≤ f → RdF (s_rp f) x B n tag (prR true B n f tag) deep
  | 0, tag, deep, ht, hd, hf => by
    split at hf
    · omega
    · split at hf
      · omega
      · split at hf <;> omega
  | f + 1, tag, deep, ht, hd, hf => by
    intro sh I J a it P h0 h1 hi0 hi1
    have IH := x_rp hn hB f
    have tg : tag = 0 ∨ tag = 1 ∨ tag = 2 ∨ tag = 3 := by omega
    rcases tg with e | e | e | e <;> subst e
    · -- a sum
      rw [if_pos rfl] at hf
      have F1 := IH 1 deep (by omega) hd (by rw [if_neg (by decide), if_pos rfl]; omega)
      have P : PRE sh I x B n a deep it := P
      have h0 : 0 ≤ a := h0
      have hR : RdP (s_rp f 1 (x + 1) 0 (sh, I, J)) sh I J x B n a deep (prR true B n f 1 a deep it) := F1 sh I J a it P h0 h1 hi0 hi1
      show RdP (s_X2_sum (s_rp f) (x + 1) (sh, I, J)) sh I J x B n a deep ((prR true B n f 1 a deep it).elim .inl (fun r => lpR true B n 43 2 (fun a i => prR true B n f 1 a deep i) 401 r.1 r.2.1 r.2.2))
      unfold s_X2_sum
      rw [r_ck P.1.1, bsome]
      cases hG : prR true B n f 1 a deep it with
      | inl pl =>
        rw [hG] at hR
        obtain ⟨sh5, I5, J5, k5, q1, q2⟩ := hR
        exact ⟨sh5, I5, J5, k5, by rw [q1, xb_l], q2⟩
      | inr r =>
        have ok := prR_ok hn f 1 a deep it h0 h1 hd ⟨hi0, hi1⟩ r hG
        rw [hG] at hR
        obtain ⟨sh5, I5, J5, k5, q5, q1, q2, q3, q4, q6, q7⟩ := hR
        have okb := ok.2.1
        have oki := ok.2.2
        have lr := lvs_pos r.1
        rw [q1, xb_r]
        exact (x_lpS hn hB (fun a it z1 z2 z3 z4 r hr => prR_ok hn f 1 a deep it z1 z2 hd ⟨z3, z4⟩ r hr) (fun sh I J a it P z1 z2 z3 z4 => F1 sh I J a it P z1 z2 z3 z4) 401 r.1 r.2.1 r.2.2 sh5 I5 J5 q5 (by omega) (P.step q4 (by omega) okb.2 q3) (by omega) okb.2 (by omega) oki.2.1 q2 q7).pre q4 (by omega)
    · -- a product
      rw [if_neg (by decide), if_pos rfl] at hf
      have F1 := IH 2 deep (by omega) hd (by rw [if_neg (by decide), if_neg (by decide), if_pos rfl]; omega)
      have P : PRE sh I x B n a deep it := P
      have h0 : 0 ≤ a := h0
      have hR : RdP (s_rp f 2 (x + 1) 0 (sh, I, J)) sh I J x B n a deep (prR true B n f 2 a deep it) := F1 sh I J a it P h0 h1 hi0 hi1
      show RdP (s_X2_term (s_rp f) (x + 1) (sh, I, J)) sh I J x B n a deep ((prR true B n f 2 a deep it).elim .inl (fun r => lpR true B n 42 3 (fun a i => prR true B n f 2 a deep i) 401 r.1 r.2.1 r.2.2))
      unfold s_X2_term
      rw [r_ck P.1.1, bsome]
      cases hG : prR true B n f 2 a deep it with
      | inl pl =>
        rw [hG] at hR
        obtain ⟨sh5, I5, J5, k5, q1, q2⟩ := hR
        exact ⟨sh5, I5, J5, k5, by rw [q1, xb_l], q2⟩
      | inr r =>
        have ok := prR_ok hn f 2 a deep it h0 h1 hd ⟨hi0, hi1⟩ r hG
        rw [hG] at hR
        obtain ⟨sh5, I5, J5, k5, q5, q1, q2, q3, q4, q6, q7⟩ := hR
        have okb := ok.2.1
        have oki := ok.2.2
        have lr := lvs_pos r.1
        rw [q1, xb_r]
        exact (x_lpT hn hB (fun a it z1 z2 z3 z4 r hr => prR_ok hn f 2 a deep it z1 z2 hd ⟨z3, z4⟩ r hr) (fun sh I J a it P z1 z2 z3 z4 => F1 sh I J a it P z1 z2 z3 z4) 401 r.1 r.2.1 r.2.2 sh5 I5 J5 q5 (by omega) (P.step q4 (by omega) okb.2 q3) (by omega) okb.2 (by omega) oki.2.1 q2 q7).pre q4 (by omega)
    · -- a unit
      rw [if_neg (by decide), if_neg (by decide), if_pos rfl] at hf
      have P : PRE sh I x B n a deep it := P
      have h0 : 0 ≤ a := h0
      show RdP (s_X2_unit (s_rp f) (x + 1) (sh, I, J)) sh I J x B n a deep (unR B n (prR true B n f) a deep it)
      exact x_unit hn hB hd (fun hd6 => IH 2 (deep + 1) (by omega) (by omega) (by rw [if_neg (by decide), if_neg (by decide), if_pos rfl]; omega)) (fun hd6 => IH 0 (deep + 1) (by omega) (by omega) (by rw [if_pos rfl]; omega)) (IH 3 deep (by omega) hd (by rw [if_neg (by decide), if_neg (by decide), if_neg (by decide)]; omega)) P h0 h1 hi0 hi1
    · -- an overlap
      rw [if_neg (by decide), if_neg (by decide), if_neg (by decide)] at hf
      have P : PRE sh I x B n (a - 1) deep it := P
      have h0 : 1 ≤ a := h0
      show RdP (s_X2_overlap (s_rp f) (x + 1) (a - 1) (sh, I, J)) sh I J x B n (a - 1) deep (ovR B n (prR true B n f) a deep it)
      exact x_ovl hn hB hd (fun hd6 => IH 0 (deep + 1) (by omega) (by omega) (by rw [if_pos rfl]; omega)) P h0 h1 hi0 hi1
end CR3
