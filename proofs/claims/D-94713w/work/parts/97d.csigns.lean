/-! the component: a text, signs -/
set_option maxRecDepth 100000
section CSg
variable {sh sh' : Sh} {I I' J J' : Nat → Int → Int} {x : Nat} {B : Int → Int} {n : Int} {W W' : Int → Int}
theorem sgV_e (hB : okB B) {a : Int} (h0 : 0 ≤ a) (h1 : a ≤ n) (hn : n ≤ 400) : sgV B n a = -1 ↔ skS B n a = n := by
  have s := skS_b (B := B) h0 h1 hn
  unfold sgV
  by_cases h : skS B n a < n
  · have av := anI_b (B (skS B n a)) (show (0 : Int) ≤ 255 by decide) (show (255 : Int) < 2147483648 by decide)
    rw [if_pos h]
    exact ⟨fun e => by omega, fun e => by omega⟩
  · rw [if_neg h]
    exact ⟨fun _ => by omega, fun _ => rfl⟩
theorem tE_m2 (h : 1 ≤ sh.1.2.1 ∧ 6 ≤ sh.1.2.2) (k : Nat) : tE (sh, I, J) k = some (k, sh.1.1, (exS sh, exI sh I, exI sh J)) := by
  unfold tE nC
  rw [if_pos h]
  rfl
theorem x_text (L : CL sh x) (hb : x + 694 < sh.1.1) (hBD : BD sh) (hn : 0 ≤ n ∧ n ≤ 400) (hB : okB B) (ht : ∀ j : Int, 0 ≤ j → j < 400 → I (x + 1 + 1) j = B j) (R : 402 ≤ sh.1.2.1 ∧ 1210 ≤ sh.1.2.2) :
    (∀ pl, txR true B n = .inl pl → ∃ sh' I' J' k, s_X2_text (x + 1) n (sh, I, J) = some (.inl (5, x + 4, (sh', I', J'))) ∧ I' (x + 4) 6 = pl ∧ XR x sh (up1 I (x + 1) (upz (I (x + 1)) 4 n)) J sh' I' J' k ∧ k ≤ 401) ∧
    (∀ t, txR true B n = .inr t → ∃ sh' I' J' k q, s_X2_text (x + 1) n (sh, I, J) = some (.inr (q, (sh', I', J'))) ∧ SA sh' I' t.1 t.2 q ∧ XR x sh (up1 I (x + 1) (upz (I (x + 1)) 4 n)) J sh' I' J' k ∧ k ≤ 401 ∧ t.1 ≤ 200) := by
  obtain ⟨I1, hI1⟩ : ∃ I1, up1 I (x + 1) (upz (I (x + 1)) 4 n) = I1 := ⟨_, rfl⟩
  rw [hI1]
  have b0 : RC I1 x B n (I1 (x + 1) 5) (I1 (x + 1) 6) (I1 (x + 1) 7) := ⟨⟨by rw [← hI1, up1_s, upz_s], rfl⟩, ⟨rfl, rfl⟩, fun j u v => by rw [← hI1, up1_n _ _ (by omega)]; exact ht j u v⟩
  have r4 := ((b0.w5 0).w6 0).w7 0
  have f4 : FRc x I1 _ := ((FRc.put (I := I1) (x := x) (k := 5) (v := 0) (Or.inl rfl)).trans (FRc.put (k := 6) (v := 0) (Or.inr (Or.inl rfl)))).trans (FRc.put (k := 7) (v := 0) (Or.inr (Or.inr rfl)))
  unfold s_X2_text
  rw [r_pI L, bsome, hI1, r_pI L, bsome, r_pI L, bsome, r_pI L, bsome, r_ck L, bsome]
  obtain ⟨I4, hI4⟩ : ∃ I4, up1 (up1 (up1 I1 (x + 1) (upz (I1 (x + 1)) 5 0)) (x + 1) (upz (up1 I1 (x + 1) (upz (I1 (x + 1)) 5 0) (x + 1)) 6 0)) (x + 1) (upz (up1 (up1 I1 (x + 1) (upz (I1 (x + 1)) 5 0)) (x + 1) (upz (up1 I1 (x + 1) (upz (I1 (x + 1)) 5 0) (x + 1)) 6 0) (x + 1)) 7 0) = I4 := ⟨_, rfl⟩
  rw [hI4] at r4 f4 ⊢
  have X0 : XR x sh I1 J sh I4 J 0 := XR.fr hBD f4
  have P : PRE sh I4 x B n 0 0 0 := ⟨⟨L, hb, hBD⟩, r4, by omega, by omega⟩
  have hR := x_rp hn.2 hB 40 0 0 (by decide) (by omega) (by decide) sh I4 J 0 0 P (by decide) hn.1 (by omega) (by omega)
  replace hR : RdP (s_rp 40 0 (x + 1) 0 (sh, I4, J)) sh I4 J x B n 0 0 (prR true B n 40 0 0 0 0) := hR
  have ok := prR_ok (hard := true) (B := B) hn.2 40 0 0 0 0 (Int.le_refl _) hn.1 (by omega) (by omega)
  unfold txR
  cases hq : prR true B n 40 0 0 0 0 with
  | inl pl =>
    rw [hq] at hR
    obtain ⟨sh5, I5, J5, k5, q1, q2, q3, q4⟩ := hR
    refine ⟨fun pl' hr => ?_, fun t hr => (by cases hr)⟩
    rw [q1, xb_l, ← Sum.inl.inj (show (Sum.inl pl : Int ⊕ TT) = .inl pl' from hr)]
    exact ⟨sh5, I5, J5, 0 + k5, rfl, q2, X0.trans q3, by omega⟩
  | inr r =>
    rw [hq] at hR
    obtain ⟨sh5, I5, J5, k5, q5, q1, q2, q3, q4, q6, q7⟩ := hR
    obtain ⟨p1, ⟨p2, p3⟩, p4, p5, p6⟩ := ok r hq
    have L5 := q4.cl L hb
    have B5 : BD sh5 := q4.2.2.2.2
    obtain ⟨I6, e6, r6, f6⟩ := x2_sign (J := J5) L5 hn.2 hB q3 p2 p3
    have sb := sgV_b hB n r.2.1
    have se := sgV_e hB (n := n) (a := r.2.1) p2 p3 hn.2
    have ss := skS_b (B := B) p2 p3 hn.2
    have X6 := X0.trans (q4.trans (XR.fr (J := J5) B5 f6))
    rw [q1, xb_r]
    dsimp only
    rw [r_ck L5, bsome, e6, bsome]
    dsimp only
    rw [w32_id (x := sgV B n r.2.1) (by omega) (by omega), show w32 (-1) = -1 from rfl]
    show (∀ pl, (if skS B n r.2.1 = n then (.inr r.1 : Int ⊕ TT) else .inl (skS B n r.2.1)) = .inl pl → _) ∧ (∀ t, (if skS B n r.2.1 = n then (.inr r.1 : Int ⊕ TT) else .inl (skS B n r.2.1)) = .inr t → _)
    by_cases hc : skS B n r.2.1 = n
    · rw [if_pos hc, if_pos (se.mpr hc)]
      refine ⟨fun pl hr => (by cases hr), fun t hr => ?_⟩
      rw [← Sum.inr.inj hr]
      exact ⟨sh5, I6, J5, _, q5, rfl, XR.sa L5 B5 (XR.fr (J := J5) B5 f6) q2, X6, by omega, by omega⟩
    · rw [if_neg hc, if_neg (fun e => hc (se.mp e)), r_gI L5, bsome, r6.1.2, r_ck L5, bsome]
      refine ⟨fun pl hr => ?_, fun t hr => (by cases hr)⟩
      obtain ⟨I7, e7, g7, f7⟩ := x2_fail (I := I6) (J := J5) L5 (pl := skS B n r.2.1)
      rw [e7, xb_l, ← Sum.inl.inj hr]
      exact ⟨sh5, I7, J5, _, rfl, g7, X6.trans (XR.fr (J := J5) B5 f7), by omega⟩
/-- signs are read: what is left -/
def XG (x : Nat) (sh : Sh) (I J : Nat → Int → Int) (sh' : Sh) (I' J' : Nat → Int → Int) (fa : Int) : Prop :=
  (sh.1.1 ≤ sh'.1.1 ∧ sh.1.2.1 ≤ sh'.1.2.1 + 401 ∧ sh.1.2.2 ≤ sh'.1.2.2 + 1203) ∧ (∀ b, b < sh.1.1 → sh'.2.1 b = sh.2.1 b ∧ sh'.2.2.1 b = sh.2.2.1 b) ∧
  ((∀ b, b < sh.1.1 → b ≠ x → b ≠ x + 1 → b ≠ x + 4 → b ≠ x + 16 → I' b = I b) ∧ I' (x + 1) 3 = 0 ∧ I' x 16 = fa ∧ ∀ q : Int, q ≠ 16 → I' x q = I x q) ∧ (∀ b, b < sh.1.1 → J' b = J b) ∧ BD sh'
theorem SA.sg : ∀ (m : Nat) (t : Tr m) (q : Nat), SA sh I m t q → isSg (sh.2.1 q) = true
  | 0, t, _, _ => Empty.elim t
  | _ + 1, .inl _, q, g => by rw [show sh.2.1 q = 2 from g]; decide
  | _ + 1, .inr (.inl v), q, g => by rw [g.1]; decide
  | m + 1, .inr (.inr (.inl t)), q, ⟨g1, _⟩ => by rw [g1]; decide
  | m + 1, .inr (.inr (.inr (o, t1, t2))), q, ⟨⟨g1, _⟩, _⟩ => by
    rw [g1]
    split
    · decide
    · split <;> decide
theorem x_signs (L : CL sh x) (R : Room sh) (hb : x + 694 < sh.1.1) (hBD : BD sh) (hS : SR sh I (x + 16) W) (hW : WI W) (hs : I (x + 1) 3 = n) (hn : 0 ≤ n ∧ n ≤ 400) (hB : okB B) (ht : ∀ j : Int, 0 ≤ j → j < 400 → I (x + 1 + 1) j = B j) :
    (∀ pl, txR true B n = .inl pl → ∃ sh1 I' J', s_X1_signs x (sh, I, J) = some (.inl (0, sh1.1.1, (exS sh1, exI sh1 I', exI sh1 J'))) ∧ XG x sh I J sh1 I' J' pl ∧ I' (x + 16) = I (x + 16) ∧ ∀ b, b < sh.1.1 → sh1.2.2.2 b = sh.2.2.2 b) ∧
    (∀ t, txR true B n = .inr t → W 3 = 8 → ∃ sh1 I' J', s_X1_signs x (sh, I, J) = some (.inl (2, sh1.1.1, (exS sh1, exI sh1 I', exI sh1 J'))) ∧ XG x sh I J sh1 I' J' (-1) ∧ I' (x + 16) = I (x + 16) ∧ ∀ b, b < sh.1.1 → sh1.2.2.2 b = sh.2.2.2 b) ∧
    (∀ t, txR true B n = .inr t → W 3 < 8 → ∃ sh1 I' J' q, s_X1_signs x (sh, I, J) = some (.inr (W 3, (sh1, I', J'))) ∧ XG x sh I J sh1 I' J' (-1) ∧ I' (x + 16) = upz (I (x + 16)) 7 (W 3 + 1) ∧ sh1.2.2.2 (x + 16 + 11) = upz (sh.2.2.2 (x + 16 + 11)) (W 3) (some q) ∧ (∀ b, b < sh.1.1 → b ≠ x + 16 + 11 → sh1.2.2.2 b = sh.2.2.2 b) ∧ SA sh1 I' t.1 t.2 q ∧ t.1 ≤ 200 ∧ isSg (sh1.2.1 q) = true) := by
  have c3 := hW.c3
  have h7 : I (x + 16) 7 = W 3 := hS.1.1.2.2.2
  obtain ⟨I1, hI1⟩ : ∃ I1, up1 I (x + 1) (upz (I (x + 1)) 3 0) = I1 := ⟨_, rfl⟩
  obtain ⟨I2, hI2⟩ : ∃ I2, up1 I1 x (upz (I1 x) 16 (-1)) = I2 := ⟨_, rfl⟩
  have R1 := R.1
  have R2 := R.2
  have o2 : ∀ b, b ≠ x → b ≠ x + 1 → I2 b = I b := fun b u v => by rw [← hI2, up1_n _ _ u, ← hI1, up1_n _ _ v]
  have x2 : I2 x = upz (I x) 16 (-1) := by rw [← hI2, up1_s, ← hI1, up1_n _ _ (by omega)]
  have s2 : I2 (x + 1) = upz (I (x + 1)) 3 0 := by rw [← hI2, up1_n _ _ (by omega), ← hI1, up1_s]
  obtain ⟨y1, y2⟩ := x_text (I := I2) (J := J) L hb hBD hn hB (fun j u v => by rw [o2 _ (by omega) (by omega)]; exact ht j u v) (by omega)
  -- what the text leaves
  have left : ∀ {sh1 : Sh} {I' J' : Nat → Int → Int} {k : Nat} {fa : Int}, XR x sh (up1 I2 (x + 1) (upz (I2 (x + 1)) 4 n)) J sh1 I' J' k → k ≤ 401 → ∀ I5 : Nat → Int → Int, (∀ b, b ≠ x → b ≠ x + 16 → I5 b = I' b) → I5 x 16 = fa → (∀ q : Int, q ≠ 16 → I5 x q = I' x q) → XG x sh I J sh1 I5 J' fa := by
    intro sh1 I' J' k fa h hk I5 g1 g2 g3
    obtain ⟨⟨a1, a2, a3⟩, a4, ⟨a5, a6⟩, a7, a8⟩ := h
    refine ⟨⟨by omega, by omega, by omega⟩, fun b hb9 => ⟨(a4 b hb9).1, (a4 b hb9).2.1⟩, ⟨fun b u v w z z2 => ?_, ?_, g2, fun q hq => ?_⟩, a7, a8⟩
    · rw [g1 b v z2, a5 b u w z, up1_n _ _ w, o2 b v w]
    · rw [g1 _ (by omega) (by omega), a6 3 (by decide) (by decide) (by decide), up1_s, upz_n _ _ (by decide), s2, upz_s]
    · rw [g3 q hq, a5 x (by omega) (by omega) (by omega), up1_n _ _ (by omega), x2, upz_n _ _ hq]
  have run : s_X1_signs x (sh, I, J) = xb (s_X2_text (x + 1) n (sh, I2, J)) (fun e6 => (if e6.1 = 5 then
      (gI e6.2.2 3 e6.2.1 6).bind fun v7 => (pI e6.2.2 0 x 16 v7).bind fun m8 => (tE m8 0).bind fun e9 => some (.inl e9) else none)) fun q5 =>
      (gR q5.2 0 x 2).bind fun v12 => (gI q5.2 7 v12 7).bind fun v13 => (if w32 8 ≤ w32 v13 then s_X1_signs_b56 x q5.1 0 q5.2 else s_X1_signs_b56 x q5.1 1 q5.2) := by
    unfold s_X1_signs
    rw [l_ck L, bsome, x1_took L, bsome, hs, hI1]
    dsimp only
    rw [l_pI L, bsome, hI2, l_rd L, bsome, r_ck L, bsome]
  rw [run]
  clear run
  refine ⟨fun pl hr => ?_, fun t hr h8 => ?_, fun t hr h8 => ?_⟩
  · obtain ⟨sh1, I', J', k, e1, e2, e3, e4⟩ := y1 pl hr
    have L1 := e3.cl L hb
    obtain ⟨⟨a1, a2, a3⟩, a4, ⟨a5, a6⟩, a7, a8⟩ := id e3
    rw [e1, xb_l, if_pos rfl, gI_m (r_wt L1), bsome, l_pI L1, bsome, e2, tE_m2 (by omega), bsome]
    refine ⟨sh1, up1 I' x (upz (I' x) 16 pl), J', rfl, left e3 e4 _ (fun b u v => up1_n _ _ u) (by rw [up1_s, upz_s]) (fun q hq => by rw [up1_s, upz_n _ _ hq]), ?_, fun b hb9 => (a4 b hb9).2.2⟩
    rw [up1_n _ _ (by omega), a5 _ (by omega) (by omega) (by omega), up1_n _ _ (by omega), o2 _ (by omega) (by omega)]
  · obtain ⟨sh1, I', J', k, q, e1, e2, e3, e4, e5⟩ := y2 t hr
    have L1 := e3.cl L hb
    obtain ⟨⟨a1, a2, a3⟩, a4, ⟨a5, a6⟩, a7, a8⟩ := id e3
    have s16 : I' (x + 16) = I (x + 16) := by rw [a5 _ (by omega) (by omega) (by omega), up1_n _ _ (by omega), o2 _ (by omega) (by omega)]
    rw [e1, xb_r]
    dsimp only
    rw [l_st L1, bsome, s_gI L1.st, bsome, s16, h7, show w32 8 = 8 from rfl, w32_id (x := W 3) (by omega) (by omega), if_pos (by omega)]
    unfold s_X1_signs_b56 s_X1_mayBe
    rw [if_pos (show w32 0 = 0 from rfl), tE_m2 (by omega), bsome, xb_l]
    exact ⟨sh1, I', J', rfl, left e3 e4 _ (fun b u v => rfl) (by rw [a5 x (by omega) (by omega) (by omega), up1_n _ _ (by omega), x2, upz_s]) (fun q hq => rfl), s16, fun b hb9 => (a4 b hb9).2.2⟩
  · obtain ⟨sh1, I', J', k, q, e1, e2, e3, e4, e5⟩ := y2 t hr
    have L1 := e3.cl L hb
    have T1 := L1.st
    obtain ⟨⟨a1, a2, a3⟩, a4, ⟨a5, a6⟩, a7, a8⟩ := id e3
    have s16 : I' (x + 16) = I (x + 16) := by rw [a5 _ (by omega) (by omega) (by omega), up1_n _ _ (by omega), o2 _ (by omega) (by omega)]
    have sg := SA.sg _ _ _ e2
    rw [e1, xb_r]
    dsimp only
    rw [l_st L1, bsome, s_gI T1, bsome, s16, h7, show w32 8 = 8 from rfl, w32_id (x := W 3) (by omega) (by omega), if_neg (by omega)]
    unfold s_X1_signs_b56
    obtain ⟨a0, al, -⟩ := T1.2.2.2.1.2
    have us : uS (sh1, I', J') (x + 16 + 11) (W 3) q = some (shR sh1 (x + 16 + 11) (upz (sh1.2.2.2 (x + 16 + 11)) (W 3) (some q)), I', J') := by
      unfold uS
      rw [w32_id (x := W 3) (by omega) (by omega), if_pos ⟨sg, a0, by omega, by show W 3 < sh1.2.2.1 _; rw [al]; omega⟩]
      rfl
    obtain ⟨sh2, hs2⟩ : ∃ sh2, shR sh1 (x + 16 + 11) (upz (sh1.2.2.2 (x + 16 + 11)) (W 3) (some q)) = sh2 := ⟨_, rfl⟩
    have n2 : ∀ a, a ≠ x + 16 + 11 → sh2.2.2.2 a = sh1.2.2.2 a := fun a h => by rw [← hs2]; exact up1_n _ _ h
    have t2 : sh2.2.1 = sh1.2.1 ∧ sh2.2.2.1 = sh1.2.2.1 ∧ sh2.1 = sh1.1 := by rw [← hs2]; exact ⟨rfl, rfl, rfl⟩
    have L2 : CL sh2 x := by
      obtain ⟨π0, p0⟩ := L1.rp
      obtain ⟨π1, p1⟩ := L1.st.ap
      obtain ⟨π2, p2⟩ := L1.im.ap
      exact L1.ext (fun a _ _ => by rw [t2.1, t2.2.1]; exact ⟨rfl, rfl⟩) (fun a _ _ _ _ g _ _ => n2 a (by omega)) ⟨π0, p0.eq (n2 _ (by omega))⟩ ⟨π1, p1.eq (n2 _ (by omega))⟩ ⟨π2, p2.eq (n2 _ (by omega))⟩
    have T2 := L2.st
    rw [x1_mayBe1, xb_r, l_st L1, bsome, s_sg T1, bsome, bsome, s_gI T1, bsome, s16, h7, us, bsome, hs2, l_st L2, bsome, s_gI T2, bsome, s16, h7, s_pI T2, bsome, s16]
    obtain ⟨I3, hI3⟩ : ∃ I3, up1 I' (x + 16) (upz (I (x + 16)) 7 (W 3 + 1)) = I3 := ⟨_, rfl⟩
    have s3 : I3 (x + 16) = upz (I (x + 16)) 7 (W 3 + 1) := by rw [← hI3, up1_s]
    have o3 : ∀ b, b ≠ x + 16 → I3 b = I' b := fun b h => by rw [← hI3, up1_n _ _ h]
    rw [hI3, l_st L2, bsome, s_gI T2, bsome, s3, upz_s, show W 3 + 1 - 1 = W 3 by omega]
    have XGa := left (fa := -1) e3 e4 I3 (fun b u v => o3 b v) (by rw [o3 x (by omega), a5 x (by omega) (by omega) (by omega), up1_n _ _ (by omega), x2, upz_s]) (fun q hq => by rw [o3 x (by omega)])
    refine ⟨sh2, I3, J', q, rfl, ?_, s3, ?_, fun b hb9 hne => ?_, ?_, e5, by rw [t2.1]; exact sg⟩
    · unfold XG BD at XGa ⊢
      rw [t2.1, t2.2.1, t2.2.2]
      exact XGa
    · rw [← hs2]
      show up1 sh1.2.2.2 (x + 16 + 11) _ (x + 16 + 11) = _
      rw [up1_s, (a4 (x + 16 + 11) (by omega)).2.2]
    · rw [n2 b hne]
      exact (a4 b hb9).2.2
    · have t16 := T1.1
      refine SA.ext (sh := sh1) (sh' := sh2) (fun b hb9 => ⟨by rw [t2.1], n2 b (fun e => ?_)⟩) _ _ _ (SA.keep (fun b hb9 => o3 b (fun e => ?_)) _ _ _ e2)
      · rw [e, a0] at hb9; omega
      · rw [e, t16] at hb9; omega
end CSg
