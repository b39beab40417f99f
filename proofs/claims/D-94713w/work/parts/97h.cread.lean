/-! the two together: forms and signs are read -/
set_option maxRecDepth 100000
theorem addF_congr {W : Int → Int} {n : Nat} {c c' : Nat → Int} (e : ∀ i, i < n → c i = c' i) : addF W n c = addF W n c' := by
  unfold addF
  rw [wr_congr e]
section CRe
variable {sh sh' sh1 : Sh} {I I' I1 I2 J J' : Nat → Int → Int} {x c : Nat} {W W' V B B' : Int → Int} {kp n fa : Int}
theorem qc_form (V : IV sh I x (c + 1)) : OCQ x c (s_X1_form x (sh, I, J)) (fun μ => s_X11_form (x + 678) μ) 0 2 := by
  obtain ⟨L, C, O, R0⟩ := id V
  have L4 := L.2.1.1
  have hn := O.2.2.2.1
  have c1 := V.Wd.c1
  have hp := V.Wd.pp
  have y := x_form (J := J) V.L V.R V.S V.P V.Wd C.2.2.2.2.1 hn
  have tp := C.2.2.2.2.2.1
  -- refused
  have bad : ∀ (k : Nat) (cd : Int), ((k = 0 ∧ cd = 1) ∨ (k = 2 ∧ (2 : Nat) ≠ 100 ∧ cd = 2)) → CB (s_X1_form x (sh, I, J)) sh (up1 I (x + 1) (upz (I (x + 1)) 3 0)) J k → (∀ (sh1 : Sh) (I1 J2 : Nat → Int → Int), TL sh1 (x + 678) → (∀ a, x + 678 ≤ a → a ≤ x + 693 → I1 a = I a) → ∃ r I', s_X11_form (x + 678) (sh1, I1, J2) = some (r, (sh1, I', J2)) ∧ HK (x + 678) (tpd (thr I1 (x + 678) cd) (x + 678) 0) I') → OCQ x c (s_X1_form x (sh, I, J)) (fun μ => s_X11_form (x + 678) μ) 0 2 := by
    intro k cd hk hx hq
    obtain ⟨I1, hI1⟩ : ∃ I1, exI sh (up1 I (x + 1) (upz (I (x + 1)) 3 0)) = I1 := ⟨_, rfl⟩
    have o : ∀ b, b < sh.1.1 → b ≠ x + 1 → I1 b = I b := fun b u v => by rw [← hI1]; exact (up1_n _ _ (by omega)).trans (up1_n _ _ v)
    have f := SF.ex L
    have C1 : CR (exS sh) I1 x (I (x + 678 + 1)) (I (x + 678 + 2)) (I (x + 678 + 5)) (I (x + 678) 3) 0 (I (x + 678) 17) := C.gen L O.1 O.2.2.1 f (fun b u _ _ _ w _ => o b u w) (by rw [← hI1]; unfold exI; rw [up1_n _ _ (by omega), up1_s, upz_s]) (by rw [o x (by omega) (by omega)]; exact C.2.2.2.2.2.2) (by rw [o x (by omega) (by omega)])
    have L1 := L.sf f
    obtain ⟨r, I2, e1, e2⟩ := hq (exS sh) I1 (exI sh J) L1.1.2.1 (fun a u v => o a (by omega) (by omega))
    have E : ∀ a, x + 678 ≤ a → a ≤ x + 693 → I1 a = I a := fun a u v => o a (by omega) (by omega)
    have tn : ∀ a, a ≠ x + 678 → (a < x + 678 + 3 ∨ x + 678 + 15 < a ∨ a = x + 678 + 5) → I2 a = I1 a := fun a u v => by rw [e2.1 a u v]; exact (up1_n _ _ u).trans (thr_n u)
    have hx : s_X1_form x (sh, I, J) = some (.inl (k, sh.1.1, (exS sh, I1, exI sh J))) := by rw [← hI1]; exact hx
    refine Or.inr ⟨k, cd, sh.1.1, exS sh, I1, exI sh J, hx, hk, r, I2, exI sh J, e1, ?_, IV.of L1 C1 ⟨O.1, O.2.1, O.2.2.1, by omega, O.2.2.2.2⟩ ?_ (fun b hb => tn b (by omega) (by omega)) (by rw [tn _ (by omega) (by omega), E _ (by omega) (by omega)]) (by rw [tn _ (by omega) (by omega), E _ (by omega) (by omega)]) (by rw [tn _ (by omega) (by omega), E _ (by omega) (by omega)]) ?_ ?_ ?_⟩
    · rw [e2.2 0 (by omega)]
      unfold tpd
      rw [up1_s, upz_n _ _ (by decide), thr_0]
    · have h1 := R0.1
      have h2 := R0.2
      exact ⟨by show 1000 * c ≤ sh.1.2.1 - 1; omega, by show 10000 * c ≤ sh.1.2.2 - 6; omega⟩
    · rw [e2.2 3 (by omega)]
      unfold tpd
      rw [up1_s, upz_n _ _ (by decide), thr_k (by decide), E _ (by omega) (by omega)]
    · rw [e2.2 11 (by omega)]
      unfold tpd
      rw [up1_s, upz_s]
    · rw [e2.2 17 (by omega)]
      unfold tpd
      rw [up1_s, upz_n _ _ (by decide), thr_k (by decide), E _ (by omega) (by omega)]
  have tw : ∀ (sh1 : Sh) (I1 J2 : Nat → Int → Int), TL sh1 (x + 678) → (∀ a, x + 678 ≤ a → a ≤ x + 693 → I1 a = I a) → _ := fun sh1 I1 J2 T E => t_form (sh := sh1) (I := I1) (J := J2) T (by rw [E _ (by omega) (by omega)]; exact V.Wd) (by rw [E _ (by omega) (by omega)]; exact hn)
  by_cases h : 1 ≤ I (x + 678) 11 ∧ I (x + 678) 11 ≤ 9
  · by_cases h16 : I (x + 678 + 1) 1 < 16
    · obtain ⟨I1, e, S', r1, o⟩ := y.1 h h16
      obtain ⟨W', hW'⟩ : ∃ W', addF (I (x + 678 + 1)) (I (x + 678) 11).toNat (fun i => anI (I (x + 1 + 1) i) 255 % I (x + 678 + 1) 0) = W' := ⟨_, rfl⟩
      rw [hW'] at S'
      have e0 : W' 0 = I (x + 678 + 1) 0 := by rw [← hW']; exact addF_o _ (by decide) (by decide) (by omega)
      have wi : WI W' := by rw [← hW']; exact V.Wd.addF h16 (by omega) (fun i _ => emod_b hp _)
      have E : ∀ a, x + 678 ≤ a → a ≤ x + 693 → I1 a = I a := fun a u v => o a (by omega) (by omega)
      have C1 : CR sh I1 x W' (I (x + 678 + 2)) (I (x + 678 + 5)) (I (x + 678) 3) 0 (I (x + 678) 17) := by
        refine C.st L O.2.2.1 (SF.refl L).toh S' ?_ (fun b h1 h2 _ _ w _ _ _ h3 => o b h3 w) ⟨rfl, rfl⟩ ?_ (fun j u v => ?_) ?_ ?_
        · rw [o _ (by omega) (by omega), e0]
          exact C.2.1
        · rw [r1, upz_s]
        · rw [o _ (by omega) (by omega)]
          exact tp j u v
        · rw [o _ (by omega) (by omega)]
          exact C.2.2.2.2.2.2
        · rw [o _ (by omega) (by omega)]
      refine Or.inl ⟨_, sh, I1, J, e, L.1.2.2, fun J2 => ?_⟩
      have z := tw sh I1 J2 L.1.2.1 E
      rw [E (x + 678 + 1) (by omega) (by omega), E (x + 678) (by omega) (by omega), E (x + 678 + 5) (by omega) (by omega)] at z
      obtain ⟨I2, e1, e2⟩ := z.1 h h16
      rw [addF_congr (c' := fun i => anI (I (x + 1 + 1) i) 255 % I (x + 678 + 1) 0) (fun i hi => by rw [tp i (by omega) (by omega)]), hW'] at e2
      have tn : ∀ a, a ≠ x + 678 → a ≠ x + 678 + 1 → (a < x + 678 + 3 ∨ x + 678 + 15 < a ∨ a = x + 678 + 5) → I2 a = I1 a := fun a u w v => by rw [e2.1 a u v, up1_n _ _ w]; exact (up1_n _ _ u).trans (thr_n u)
      refine ⟨I2, J2, e1, rfl, ?_, IV.of L C1 ⟨wi, O.2.1, O.2.2.1, by omega, O.2.2.2.2⟩ V.rm (fun b hb => tn b (by omega) (by omega) (by omega)) (by rw [e2.w, up1_s]) (by rw [tn _ (by omega) (by omega) (by omega), E _ (by omega) (by omega)]) (by rw [tn _ (by omega) (by omega) (by omega), E _ (by omega) (by omega)]) ?_ ?_ ?_⟩
      · rw [e2.2 0 (by omega), up1_n _ _ (by omega)]
        unfold tpd
        rw [up1_s, upz_n _ _ (by decide), thr_0]
      · rw [e2.2 3 (by omega), up1_n _ _ (by omega)]
        unfold tpd
        rw [up1_s, upz_n _ _ (by decide), thr_k (by decide), E _ (by omega) (by omega)]
      · rw [e2.2 11 (by omega), up1_n _ _ (by omega)]
        unfold tpd
        rw [up1_s, upz_s]
      · rw [e2.2 17 (by omega), up1_n _ _ (by omega)]
        unfold tpd
        rw [up1_s, upz_n _ _ (by decide), thr_k (by decide), E _ (by omega) (by omega)]
    · exact bad 2 2 (Or.inr ⟨rfl, by decide, rfl⟩) (y.2.2 h (by omega)) (fun sh1 I1 J2 T E => (tw sh1 I1 J2 T E).2.2 (by rw [E _ (by omega) (by omega)]; exact h) (by rw [E _ (by omega) (by omega)]; omega))
  · exact bad 0 1 (Or.inl ⟨rfl, rfl⟩) (y.2.1 h) (fun sh1 I1 J2 T E => (tw sh1 I1 J2 T E).2.1 (by rw [E _ (by omega) (by omega)]; exact h))
/-- the world's first part alone counts -/
theorem CR.q (h : CR sh I x W V B kp n fa) (hW : WI W) (e : ∀ j, 0 ≤ j → j < 3606 → W' j = W j) : CR sh I x W' V B kp n fa :=
  ⟨h.1.q hW e (fun _ _ _ => rfl) ⟨rfl, rfl⟩ (fun _ _ _ g => g), by rw [e 0 (by omega) (by omega)]; exact h.2.1, h.2.2⟩
theorem XG.sf {I' J' : Nat → Int → Int} {fa : Int} (L : LAY sh x) (h : XG x sh I J sh1 I' J' fa) (hr : ∀ b, b < sh.1.1 → sh1.2.2.2 b = sh.2.2.2 b) : SF x sh sh1 401 1203 := by
  obtain ⟨⟨a1, a2, a3⟩, a4, -, -, a5⟩ := h
  have L4 := L.2.1.1
  obtain ⟨π, p⟩ := L.1.1.rp
  exact ⟨⟨a1, a5⟩, a4, fun b hb _ => hr b hb, ⟨π, p.eq (hr _ (by omega))⟩, a2, a3⟩
theorem qc_signs (V : IV sh I x (c + 1)) : OCQ x c (s_X1_signs x (sh, I, J)) (fun μ => s_X11_signs (x + 678) μ) 0 2 := by
  obtain ⟨L, C, O, R0⟩ := id V
  have L4 := L.2.1.1
  have hn := O.2.2.2.1
  have hB := O.2.2.2.2
  have c3 := V.Wd.c3
  have y := x_signs (J := J) V.L V.R L4 L.2.1.2 V.S V.Wd C.2.2.2.2.1 hn hB C.2.2.2.2.2.1
  have tw : ∀ (sh1 : Sh) (I1 J2 : Nat → Int → Int), TL sh1 (x + 678) → (∀ a, x + 678 ≤ a → a ≤ x + 693 → I1 a = I a) → _ := fun sh1 I1 J2 T E => t_signs (sh := sh1) (I := I1) (J := J2) T (by rw [E _ (by omega) (by omega)]; exact V.Wd) (by rw [E _ (by omega) (by omega)]; exact hn) (by rw [E _ (by omega) (by omega)]; exact hB)
  -- refused
  have bad : ∀ (k : Nat) (cd pl : Int), ((k = 0 ∧ cd = 1) ∨ (k = 2 ∧ (2 : Nat) ≠ 100 ∧ cd = 2)) → (∃ sh1 I' J', s_X1_signs x (sh, I, J) = some (.inl (k, sh1.1.1, (exS sh1, exI sh1 I', exI sh1 J'))) ∧ XG x sh I J sh1 I' J' pl ∧ I' (x + 16) = I (x + 16) ∧ ∀ b, b < sh.1.1 → sh1.2.2.2 b = sh.2.2.2 b) → (∀ (sh1 : Sh) (I1 J2 : Nat → Int → Int), TL sh1 (x + 678) → (∀ a, x + 678 ≤ a → a ≤ x + 693 → I1 a = I a) → ∃ r I', s_X11_signs (x + 678) (sh1, I1, J2) = some (r, (sh1, I', J2)) ∧ FS (x + 678) I1 I' cd pl ∧ ∀ j : Int, j < 3606 → I' (x + 678 + 1) j = I1 (x + 678 + 1) j) → OCQ x c (s_X1_signs x (sh, I, J)) (fun μ => s_X11_signs (x + 678) μ) 0 2 := by
    intro k cd pl hk hx hq
    obtain ⟨sh1, I', J', e, G, s16, hr⟩ := hx
    have f := (G.sf L hr).trans (SF.ex (L.sf (G.sf L hr)))
    obtain ⟨⟨a1, a2, a3⟩, a4, ⟨a5, a6, a7, a8⟩, -, a9⟩ := id G
    obtain ⟨I1, hI1⟩ : ∃ I1, exI sh1 I' = I1 := ⟨_, rfl⟩
    have o : ∀ b, b < sh1.1.1 → I1 b = I' b := fun b u => by rw [← hI1]; exact up1_n _ _ (by omega)
    have L1 := L.sf f
    have C1 : CR (exS sh1) I1 x (I (x + 678 + 1)) (I (x + 678 + 2)) (I (x + 678 + 5)) (I (x + 678) 3) 0 pl := C.gen L O.1 O.2.2.1 f (fun b u _ _ w z z2 => by
      rw [o b (by omega)]
      by_cases h : b = x + 16
      · rw [h, s16]
      · exact a5 b u w z z2 h) (by rw [o _ (by omega)]; exact a6) (by rw [o _ (by omega)]; exact a7) (by rw [o _ (by omega)]; exact a8 18 (by decide))
    have E : ∀ a, x + 678 ≤ a → a ≤ x + 693 → I1 a = I a := fun a u v => by rw [o a (by omega), a5 a (by omega) (by omega) (by omega) (by omega) (by omega)]
    obtain ⟨r, I2, e1, ⟨g1, g2, g3, g4, g5⟩, e3⟩ := hq (exS sh1) I1 (exI sh1 J') L1.1.2.1 E
    rw [hI1] at e
    have wq : ∀ j : Int, 0 ≤ j → j < 3606 → I2 (x + 678 + 1) j = I (x + 678 + 1) j := fun j _ v => by rw [e3 j v, E _ (by omega) (by omega)]
    refine Or.inr ⟨k, cd, sh1.1.1, exS sh1, I1, exI sh1 J', e, hk, r, I2, exI sh1 J', e1, g2, IV.of L1 (C1.q O.1 wq) ⟨O.1.q wq, O.2.1, O.2.2.1, (show (0 : Int) ≤ 0 ∧ (0 : Int) ≤ 400 by omega), O.2.2.2.2⟩ ?_ (fun b hb => g1 b (by omega) (by omega) (by omega)) rfl (by rw [g1 _ (by omega) (by omega) (by omega), E _ (by omega) (by omega)]) (by rw [g1 _ (by omega) (by omega) (by omega), E _ (by omega) (by omega)]) (by rw [g3, E _ (by omega) (by omega)]) g4 g5⟩
    have h1 := R0.1
    have h2 := R0.2
    exact ⟨by show 1000 * c ≤ sh1.1.2.1 - 1; omega, by show 10000 * c ≤ sh1.1.2.2 - 6; omega⟩
  have es : ∀ (I1 : Nat → Int → Int), (∀ a, x + 678 ≤ a → a ≤ x + 693 → I1 a = I a) → txR false (I1 (x + 678 + 5)) (I1 (x + 678) 11) = txR true (I (x + 678 + 5)) (I (x + 678) 11) := fun I1 E => by rw [E _ (by omega) (by omega), E _ (by omega) (by omega), txR_soft]
  cases ht : txR true (I (x + 678 + 5)) (I (x + 678) 11) with
  | inl pl => exact bad 0 1 pl (Or.inl ⟨rfl, rfl⟩) (y.1 pl ht) (fun sh1 I1 J2 T E => (tw sh1 I1 J2 T E).1 pl ((es I1 E).trans ht))
  | inr t =>
    by_cases h8 : I (x + 678 + 1) 3 < 8
    · obtain ⟨sh1, I1, J1, q, e, G, s16, r27, hr, sq, sl, sg⟩ := y.2.2 t ht h8
      obtain ⟨⟨a1, a2, a3⟩, a4, ⟨a5, a6, a7, a8⟩, -, a9⟩ := id G
      have f : SH x sh sh1 := ⟨⟨a1, a9⟩, a4, fun b hb _ u _ _ _ => hr b hb (by omega)⟩
      obtain ⟨π0, p0⟩ := V.L.rp
      obtain ⟨π1, p1⟩ := V.L.st.ap
      obtain ⟨π2, p2⟩ := V.L.im.ap
      have C2 : CL sh1 x := V.L.ext (fun a _ _ => a4 a (by omega)) (fun a _ _ _ _ u _ _ => hr a (by omega) (by omega)) ⟨π0, p0.eq (hr _ (by omega) (by omega))⟩ ⟨π1, p1.eq (hr _ (by omega) (by omega))⟩ ⟨π2, p2.eq (hr _ (by omega) (by omega))⟩
      have lowsg : ∀ a, isSg (sh.2.1 a) = true → sh1.2.1 a = sh.2.1 a := fun a g => (a4 a (BD.lt L.2.1.2 (fun e9 => by rw [e9] at g; exact absurd g (by decide)))).1
      have L1 : LAY sh1 x := by
        refine L.toh f C2 (fun i hi => ?_) (fun i hi => ?_)
        · rw [r27]
          by_cases hi3 : (i : Int) = I (x + 678 + 1) 3
          · rw [hi3, upz_s]
            exact sg
          · rw [upz_n _ _ hi3]
            have g := L.2.2.2.1 i hi
            cases e9 : sh.2.2.2 (x + 16 + 11) (i : Int) with
            | none => rfl
            | some a =>
              rw [e9] at g
              show isSg (sh1.2.1 a) = true
              rw [lowsg a g]
              exact g
        · rw [hr _ (by omega) (by omega)]
          have g := L.2.2.2.2 i hi
          cases e9 : sh.2.2.2 (x + 261 + 11) (i : Int) with
          | none => rfl
          | some a =>
            rw [e9] at g
            show isSg (sh1.2.1 a) = true
            rw [lowsg a g]
            exact g
      have E : ∀ a, x + 678 ≤ a → a ≤ x + 693 → I1 a = I a := fun a u v => a5 a (by omega) (by omega) (by omega) (by omega) (by omega)
      refine Or.inl ⟨_, sh1, I1, J1, e, L1.1.2.2, fun J2 => ?_⟩
      have z := (tw sh1 I1 J2 L1.1.2.1 E).2.2 t ((es I1 E).trans ht) (by rw [E _ (by omega) (by omega)]; exact h8)
      rw [E (x + 678 + 1) (by omega) (by omega)] at z
      obtain ⟨I2, e1, ⟨g1, g2, g3, g4, g5⟩, w3, wo, ws⟩ := z
      obtain ⟨W', hW'⟩ : ∃ W', I2 (x + 678 + 1) = W' := ⟨_, rfl⟩
      obtain ⟨W, hW⟩ : ∃ W, I (x + 678 + 1) = W := ⟨_, rfl⟩
      have VS := V.S
      have VW := V.Wd
      rw [hW'] at w3 wo ws
      rw [hW] at w3 wo ws h8 c3 s16 r27 VS VW
      have w0 := wo 0 (by omega) (by omega) (by omega)
      have w1 := wo 1 (by omega) (by omega) (by omega)
      have w2 := wo 2 (by omega) (by omega) (by omega)
      have w4 := wo 4 (by omega) (by omega) (by omega)
      have w5 := wo 5 (by omega) (by omega) (by omega)
      have c1 := VW.c1
      have c4 := VW.c4
      have wf : ∀ j, 6 ≤ j → j < 166 → W' j = W j := fun j u v => wo j (by omega) (by omega) (by omega)
      have wt : ∀ j, 166 ≤ j → j < 198 → W' j = W j := fun j u v => wo j (by omega) (by omega) (by omega)
      have wa : ∀ j, 3406 ≤ j → j < 3606 → W' j = W j := fun j u v => wo j (by omega) (by omega) (by omega)
      have wi : WI W' := WI.mk (by rw [w0]; exact VW.pp) (by rw [w1]; exact VW.c1) (by rw [w2]; exact VW.c2) (by omega) (by rw [w4, w5]; exact VW.c4) (VW.wF_ext w0 w1 wf) (VW.wT_ext w0 w2 wt) (VW.wA_ext w0 (by omega) (by omega) wa)
      obtain ⟨h1, h2, h3, h4, h5⟩ := SR_iff.mp VS
      have oI : ∀ a, x + 16 + 1 ≤ a → a ≤ x + 16 + 244 → I1 a = I a := fun a u v => a5 a (by omega) (by omega) (by omega) (by omega) (by omega)
      have sa : ∀ (m : Nat) (t : Tr m) (q : Nat), SA sh I m t q → SA sh1 I1 m t q := fun m t q g => SA.toh L f (fun b hb hh => a5 b hb (by omega) (by omega) (by omega) (by omega)) g
      have S' : SR sh1 I1 (x + 16) W' := by
        refine SR_iff.mpr ⟨?_, h2.ext VW w0 w1 wf (fun a u v => oI a (by omega) (by omega)), h3.ext VW w2 wt (fun a u v => oI a (by omega) (by omega)), fun s hs => ?_, h5.ext VW w0 w1 w4 w5 wf wa (fun a u v => oI a (by omega) (by omega)) (hr _ (by omega) (by omega))⟩
        · unfold SRc at h1 ⊢
          rw [s16, upz_s, upz_n _ _ (by decide), upz_n _ _ (by decide), upz_n _ _ (by decide), upz_n _ _ (by decide), upz_n _ _ (by decide), w0, w1, w2, w3, w4, w5]
          exact ⟨⟨h1.1.1, h1.1.2.1, h1.1.2.2.1, rfl⟩, h1.2⟩
        · by_cases hs3 : (s : Int) = W 3
          · refine ⟨t, q, by rw [r27, hs3, upz_s], ?_, sq, sl⟩
            rw [hs3]
            exact ws
          · obtain ⟨t', a', b1, b2, b3, b4⟩ := h4 s (by omega)
            refine ⟨t', a', by rw [r27, upz_n _ _ hs3]; exact b1, b2.ext (fun j u v => wo j (by omega) (by omega) (by omega)), sa _ _ _ b3, b4⟩
      have C1 : CR sh1 I1 x W' (I (x + 678 + 2)) (I (x + 678 + 5)) (I (x + 678) 3) 0 (-1) := by
        refine C.st L O.2.2.1 f S' ?_ (fun b u v w z z2 z3 z4 z5 z6 => a5 b u z z2 z4 (by omega)) ⟨hr _ (by omega) (by omega), hr _ (by omega) (by omega)⟩ a6 (fun j u v => ?_) a7 (a8 18 (by decide))
        · rw [a5 _ (by omega) (by omega) (by omega) (by omega) (by omega), w0, ← hW]
          exact C.2.1
        · rw [a5 _ (by omega) (by omega) (by omega) (by omega) (by omega)]
          exact C.2.2.2.2.2.1 j u v
      refine ⟨I2, J2, by rw [hW]; rw [hW] at e1; exact e1, rfl, g2, IV.of L1 C1 ⟨wi, O.2.1, O.2.2.1, (show (0 : Int) ≤ 0 ∧ (0 : Int) ≤ 400 by omega), O.2.2.2.2⟩ ?_ (fun b hb => g1 b (by omega) (by omega) (by omega)) hW' (by rw [g1 _ (by omega) (by omega) (by omega), E _ (by omega) (by omega)]) (by rw [g1 _ (by omega) (by omega) (by omega), E _ (by omega) (by omega)]) (by rw [g3, E _ (by omega) (by omega)]) g4 g5⟩
      have k1 := R0.1
      have k2 := R0.2
      exact ⟨by omega, by omega⟩
    · exact bad 2 2 (-1) (Or.inr ⟨rfl, by decide, rfl⟩) (y.2.1 t ht (by omega)) (fun sh1 I1 J2 T E => (tw sh1 I1 J2 T E).2.1 t ((es I1 E).trans ht) (by rw [E _ (by omega) (by omega)]; omega))
end CRe
