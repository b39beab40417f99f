/-! the component: the image, and back -/
set_option maxRecDepth 100000
def shSg (sh : Sh) (S : Nat) (g : Int → Option Nat) : Sh := (sh.1, sh.2.1, sh.2.2.1, up1 sh.2.2.2 (S + 11) g)
/-- nothing but signs lies in a row of signs -/
def SGA (sh : Sh) (S : Nat) : Prop := ∀ i : Nat, i < 8 → (match sh.2.2.2 (S + 11) (i : Int) with | none => true | some a => isSg (sh.2.1 a)) = true
section CIm
variable {sh sh' : Sh} {I I' J : Nat → Int → Int} {x S S2 : Nat} {p : Int} {W W' : Int → Int}
theorem x10_be {a b : Nat} (A : CA sh a) (B : CA sh b) (hne : a + 4 < b ∨ b + 4 < a) {d : Int} {c1 c2 : Int → Int} (hd : d ≤ 40) (h1 : FM I (b + 1) p d c1) (h2 : FM I (b + 3) p d c2) :
    ∃ I', s_X10_be a b (sh, I, J) = some (sh, I', J) ∧ I' a 2 = I b 2 ∧ FM I' (a + 1) p d c1 ∧ FM I' (a + 3) p d c2 ∧ ∀ q, (q < a ∨ a + 4 < q) → I' q = I q := by
  obtain ⟨a0, ⟨a1, A1⟩, a2, A2⟩ := A
  obtain ⟨b0, ⟨b1, B1⟩, b2, B2⟩ := B
  obtain ⟨I1, hI1⟩ : ∃ I1, up1 I a (upz (I a) 2 (I b 2)) = I1 := ⟨_, rfl⟩
  have o1 : ∀ q, q ≠ a → I1 q = I q := fun q h => by rw [← hI1, up1_n _ _ h]
  obtain ⟨I2, e2, r2, f2⟩ := x8_be (I := I1) (J := J) A1 B1 (by omega) hd (h1.eq (o1 _ (by omega)) (o1 _ (by omega)))
  obtain ⟨I3, e3, r3, f3⟩ := x8_be (I := I2) (J := J) A2 B2 (by omega) hd ((h2.eq (o1 _ (by omega)) (o1 _ (by omega))).keep f2 (by omega) (by omega))
  refine ⟨I3, ?_, by rw [f3 _ (by omega), f2 _ (by omega), ← hI1, up1_s, upz_s], r2.keep f3 (by omega) (by omega), r3, fun q hq => by rw [f3 _ (by omega), f2 _ (by omega), o1 _ (by omega)]⟩
  unfold s_X10_be
  rw [gI_m b0, bsome, pI_m a0, bsome, hI1, gR_m a0 a1, bsome, gR_m b0 b1, bsome, f_ck A1, bsome, e2, bsome, gR_m a0 a2, bsome, gR_m b0 b2, bsome, f_ck A2, bsome, e3, bsome]
/-- forms -/
theorem x9_l2 (T : ST sh S) (T2 : ST sh S2) (hd : S + 244 < S2 ∨ S2 + 244 < S) (h : SR sh I S2 W) (hW : WI W) : ∀ (m i : Nat) (I1 : Nat → Int → Int), (i : Int) + m = W 1 → (∀ f : Nat, f < i → FM I1 (S + 13 + 2 * f) (W 0) (fD W f) (fC W f)) → AF (fun a => S + 13 ≤ a ∧ a ≤ S + 44) I I1 →
    ∃ I2, s_X9_be_l2 S S2 i (sh, I1, J) = s_X9_be_l33 S S2 0 (sh, I2, J) ∧ SRf I2 S W ∧ AF (fun a => S + 13 ≤ a ∧ a ≤ S + 44) I I2
  | 0, i, I1, hi, h1, h2 => by
    have c1 := hW.c1
    have e5 : I1 S2 5 = W 1 := by rw [h2 _ (by omega)]; exact h.1.1.2.1
    refine ⟨I1, ?_, fun f hf => h1 f (by omega), h2⟩
    rw [e_X9_be_l2]
    unfold s_X9_be_l2_st
    rw [s_gI T2, bsome, e5, w32_id (x := W 1) (by omega) (by omega), w32_id (x := (i : Int)) (by omega) (by omega), if_pos (by omega)]
    cases s_X9_be_l33 S S2 0 (sh, I1, J) <;> rfl
  | m + 1, i, I1, hi, h1, h2 => by
    have c1 := hW.c1
    have e5 : I1 S2 5 = W 1 := by rw [h2 _ (by omega)]; exact h.1.1.2.1
    have d8 := (hW.f (f := (i : Int)) (by omega) (by omega)).1
    have src := (h.2.1 i (by omega)).keep h2 (by omega) (by omega)
    have F := T.ff (k := i) (by omega)
    have F2 := T2.ff (k := i) (by omega)
    obtain ⟨I2, e2, r2, f2⟩ := x8_be (I := I1) (J := J) F F2 (by omega) (by omega) src
    obtain ⟨I3, e3, r3⟩ := x9_l2 T T2 hd h hW m (i + 1) I2 (by omega) (fun f hf => by
      by_cases e : f = i
      · rw [e]; exact r2
      · exact (h1 f (by omega)).keep f2 (by omega) (by omega)) (h2.trans (f2.mono (fun a ha => by omega)))
    refine ⟨I3, ?_, r3⟩
    rw [← e3, e_X9_be_l2]
    unfold s_X9_be_l2_st
    rw [s_gI T2, bsome, e5, w32_id (x := W 1) (by omega) (by omega), w32_id (x := (i : Int)) (by omega) (by omega), if_neg (by omega), s_fo T, bsome, s_form T (by omega), bsome, s_fo T2, bsome, s_form T2 (by omega), bsome, f_ck F, bsome, e2, bsome]
    rfl
/-- tables -/
theorem x9_l33 (T : ST sh S) (T2 : ST sh S2) (hd : S + 244 < S2 ∨ S2 + 244 < S) (h : SR sh I S2 W) (hW : WI W) : ∀ (m i : Nat) (I1 : Nat → Int → Int), (i : Int) + m = W 2 → (∀ t : Nat, t < i → ∀ j : Int, 0 ≤ j → j < 4 → I1 (S + 3 + t) j = tT W t j) → AF (fun a => S + 3 ≤ a ∧ a ≤ S + 44) I I1 → SRf I1 S W →
    ∃ I2, s_X9_be_l33 S S2 i (sh, I1, J) = s_X9_be_b65 S S2 (sh, I2, J) ∧ SRt I2 S W ∧ SRf I2 S W ∧ AF (fun a => S + 3 ≤ a ∧ a ≤ S + 44) I I2
  | 0, i, I1, hi, h1, h2, hf => by
    have c2 := hW.c2
    have e6 : I1 S2 6 = W 2 := by rw [h2 _ (by omega)]; exact h.1.1.2.2.1
    refine ⟨I1, ?_, fun t ht => h1 t (by omega), hf, h2⟩
    rw [e_X9_be_l33]
    unfold s_X9_be_l33_st
    rw [s_gI T2, bsome, e6, w32_id (x := W 2) (by omega) (by omega), w32_id (x := (i : Int)) (by omega) (by omega), if_pos (by omega)]
    cases s_X9_be_b65 S S2 (sh, I1, J) <;> rfl
  | m + 1, i, I1, hi, h1, h2, hf => by
    have c2 := hW.c2
    have c1 := hW.c1
    have e6 : I1 S2 6 = W 2 := by rw [h2 _ (by omega)]; exact h.1.1.2.2.1
    have A := T.ta (k := i) (by omega)
    have A2 := T2.ta (k := i) (by omega)
    have cp : cpI (sh, I1, J) (S2 + 3 + i) 0 (S + 3 + i) 0 4 = some (sh, up1 I1 (S + 3 + i) (cpz (I1 (S2 + 3 + i)) (I1 (S + 3 + i)) 0 0 4), J) := by
      have l1 := A.2.1
      have l2 := A2.2.1
      unfold cpI
      rw [show w32 0 = 0 from rfl, show w32 4 = 4 from rfl, if_pos]
      · rfl
      · exact ⟨A2.1, A.1, by decide, by decide, by decide, by show (0 : Int) + 4 ≤ sh.2.2.1 _; omega, by show (0 : Int) + 4 ≤ sh.2.2.1 _; omega⟩
    obtain ⟨I2, hI2⟩ : ∃ I2, up1 I1 (S + 3 + i) (cpz (I1 (S2 + 3 + i)) (I1 (S + 3 + i)) 0 0 4) = I2 := ⟨_, rfl⟩
    have f2 : AF (fun a => a = S + 3 + i) I1 I2 := by rw [← hI2]; exact AF.one rfl
    obtain ⟨I3, e3, r3⟩ := x9_l33 T T2 hd h hW m (i + 1) I2 (by omega) (fun t ht j u v => by
      by_cases e : t = i
      · rw [e, ← hI2, up1_s]
        unfold cpz
        rw [if_pos (by omega), show (0 : Int) + (j - 0) = j by omega, h2 _ (by omega)]
        exact h.2.2.1 i (by omega) j u v
      · rw [f2 _ (by omega)]
        exact h1 t (by omega) j u v) (h2.trans (f2.mono (fun a ha => by omega))) (fun f hf9 => (hf f hf9).keep f2 (by omega) (by omega))
    refine ⟨I3, ?_, r3⟩
    rw [← e3, e_X9_be_l33]
    unfold s_X9_be_l33_st
    rw [s_gI T2, bsome, e6, w32_id (x := W 2) (by omega) (by omega), w32_id (x := (i : Int)) (by omega) (by omega), if_neg (by omega), s_tb T2, bsome, s_table T2 (by omega), bsome, s_tb T, bsome, s_table T (by omega), bsome, cp, bsome, hI2]
    rfl
/-- acts -/
theorem x9_l82 (T : ST sh S) (T2 : ST sh S2) (hd : S + 244 < S2 ∨ S2 + 244 < S) (h : SR sh I S2 W) (hW : WI W) {π : Nat → Nat} (hπ : AP2 sh S π) {G : Nat → Nat → Int → Int} (hG : ∀ k : Nat, (k : Int) < W 4 + W 5 → SRg sh I S2 W G k) : ∀ (m i : Nat) (I1 : Nat → Int → Int), (i : Int) + m = W 4 + W 5 → (∀ k : Nat, k < i → SRg sh I1 S W G k) → AF (fun a => S + 45 ≤ a ∧ a ≤ S + 244) I I1 →
    ∃ I2, s_X9_be_l82 S S2 i (sh, I1, J) = s_X9_be_b111 S S2 (sh, I2, J) ∧ (∀ k : Nat, (k : Int) < W 4 + W 5 → SRg sh I2 S W G k) ∧ AF (fun a => S + 45 ≤ a ∧ a ≤ S + 244) I I2
  | 0, i, I1, hi, h1, h2 => by
    have c4 := hW.c4
    have e8 : I1 S2 8 = W 4 + W 5 := by rw [h2 _ (by omega)]; exact h.1.2.2
    refine ⟨I1, ?_, fun k hk => h1 k (by omega), h2⟩
    rw [e_X9_be_l82]
    unfold s_X9_be_l82_st
    rw [s_gI T2, bsome, e8, w32_id (x := W 4 + W 5) (by omega) (by omega), w32_id (x := (i : Int)) (by omega) (by omega), if_pos (by omega)]
    cases s_X9_be_b111 S S2 (sh, I1, J) <;> rfl
  | m + 1, i, I1, hi, h1, h2 => by
    have c4 := hW.c4
    have c1 := hW.c1
    have e8 : I1 S2 8 = W 4 + W 5 := by rw [h2 _ (by omega)]; exact h.1.2.2
    obtain ⟨j, j1, j2, j3, j4, j5, j6, j7⟩ := hG i (by omega)
    have hb := (hW.a (a := (i : Int)) (by omega) (by omega)).1
    have d8 := (hW.f hb.1 hb.2).1
    have pi := hπ.1 i (by omega)
    obtain ⟨I2, e2, r1, r2, r3, o2⟩ := x10_be (I := I1) (J := J) (p := W 0) (T.ca pi.1) (T2.ca j1) (by omega) (show fD W (aA W i 0) ≤ 40 by omega) (j4.keep h2 (by omega) (by omega)) (j5.keep h2 (by omega) (by omega))
    obtain ⟨I3, e3, r4⟩ := x9_l82 T T2 hd h hW hπ hG m (i + 1) I2 (by omega) (fun k hk => by
      by_cases e : k = i
      · rw [e]
        exact ⟨π i, pi.1, pi.2, by rw [r1, h2 _ (by omega)]; exact j3, r2, r3, j6, j7⟩
      · obtain ⟨l, l1, l2, l3, l4, l5, l6⟩ := h1 k (by omega)
        have pk := hπ.1 k (by omega)
        have lk : l = π k := by
          rw [l2] at pk
          have := Option.some.inj pk.2
          omega
        have ne : π k ≠ π i := fun e9 => e (hπ.2 k i (by omega) (by omega) e9)
        exact ⟨l, l1, l2, by rw [o2 _ (by omega)]; exact l3, l4.eq (o2 _ (by omega)) (o2 _ (by omega)), l5.eq (o2 _ (by omega)) (o2 _ (by omega)), l6⟩) (h2.trans (fun a ha => o2 a (by omega)))
    refine ⟨I3, ?_, r4⟩
    rw [← e3, e_X9_be_l82]
    unfold s_X9_be_l82_st
    rw [s_gI T2, bsome, e8, w32_id (x := W 4 + W 5) (by omega) (by omega), w32_id (x := (i : Int)) (by omega) (by omega), if_neg (by omega), s_ac T, bsome, s_act T (by omega) pi.2, bsome, s_ac T2, bsome, s_act T2 (by omega) j2, bsome, ck_m (T.ca pi.1).1, bsome, e2, bsome]
    rfl
/-- a state becomes another one -/
theorem x9_be (L : CL sh x) (hx : S = x + 16 ∧ S2 = x + 261 ∨ S = x + 261 ∧ S2 = x + 16) (h : SR sh I S2 W) (hW : WI W) (hg : SGA sh S2) :
    ∃ (g : Int → Option Nat) (I' : Nat → Int → Int), s_X9_be S S2 (sh, I, J) = some (shSg sh S g, I', J) ∧ CL (shSg sh S g) x ∧ SR (shSg sh S g) I' S W ∧ SGA (shSg sh S g) S ∧ ∀ a, (a < S ∨ S + 244 < a) → I' a = I a := by
  have c4 := hW.c4
  have T : ST sh S := by
    rcases hx with e | e <;> rw [e.1]
    · exact L.st
    · exact L.im
  have T2 : ST sh S2 := by
    rcases hx with e | e <;> rw [e.2]
    · exact L.im
    · exact L.st
  have hd : S + 244 < S2 ∨ S2 + 244 < S := by omega
  obtain ⟨I1, e1, f1, k1⟩ := x9_l2 (J := J) T T2 hd h hW (W 1).toNat 0 I (by have := hW.c1; omega) (fun f hf => by omega) AF.refl
  obtain ⟨I2, e2, t2, f2, k2⟩ := x9_l33 (J := J) T T2 hd h hW (W 2).toNat 0 I1 (by have := hW.c2; omega) (fun f hf => by omega) (k1.mono (fun a ha => by omega)) f1
  rw [show ((0 : Nat) : Int) = 0 from rfl] at e1 e2
  obtain ⟨g, hgd⟩ : ∃ g, cpz (sh.2.2.2 (S2 + 11)) (sh.2.2.2 (S + 11)) 0 0 8 = g := ⟨_, rfl⟩
  have ge : ∀ k : Int, 0 ≤ k → k < 8 → g k = sh.2.2.2 (S2 + 11) k := fun k u v => by
    rw [← hgd]
    unfold cpz
    rw [if_pos (by omega), show (0 : Int) + (k - 0) = k by omega]
  have cq : cpQ (sh, I2, J) (S2 + 11) 0 (S + 11) 0 8 = some (shSg sh S g, I2, J) := by
    have A := T.2.2.2.1.2
    have A2 := T2.2.2.2.1.2
    have l1 := A.2.1
    have l2 := A2.2.1
    unfold cpQ
    rw [show w32 0 = 0 from rfl, show w32 8 = 8 from rfl, if_pos]
    · show some (sR (sh, I2, J) (S + 11) (cpz (sh.2.2.2 (S2 + 11)) (sh.2.2.2 (S + 11)) 0 0 8)) = _
      rw [hgd]
      rfl
    · refine ⟨A2.1, A.1, by decide, by decide, by decide, by show (0 : Int) + 8 ≤ sh.2.2.1 _; omega, by show (0 : Int) + 8 ≤ sh.2.2.1 _; omega, ?_⟩
      rw [List.all_eq_true]
      intro i hi
      have hi : i < 8 := List.mem_range.mp hi
      have := hg i hi
      rw [Int.zero_add]
      exact this
  have L3 : CL (shSg sh S g) x := by
    obtain ⟨π0, p0⟩ := L.rp
    obtain ⟨π1, p1⟩ := L.st.ap
    obtain ⟨π2, p2⟩ := L.im.ap
    exact L.ext (fun a _ _ => ⟨rfl, rfl⟩) (fun a _ _ _ _ h h2 _ => up1_n _ _ (by omega)) ⟨π0, p0.eq (up1_n _ _ (by omega))⟩ ⟨π1, p1.eq (up1_n _ _ (by omega))⟩ ⟨π2, p2.eq (up1_n _ _ (by omega))⟩
  have tSg := T.2.2.2.1.2.1
  have saE : ∀ (I : Nat → Int → Int) (n : Nat) (t : Tr n) (a : Nat), SA sh I n t a → SA (shSg sh S g) I n t a := fun I n t a h9 =>
    SA.ext (sh := sh) (sh' := shSg sh S g) (fun b hb => ⟨rfl, up1_n _ _ (fun e => by rw [e, tSg] at hb; omega)⟩) n t a h9
  have kk2 : ∀ a, (a < S ∨ S + 244 < a) → I2 a = I a := fun a ha => k2 a (by omega)
  have T3 : ST (shSg sh S g) S := by
    rcases hx with e | e <;> rw [e.1]
    · have := L3.st; rw [e.1] at this; exact this
    · have := L3.im; rw [e.1] at this; exact this
  have T32 : ST (shSg sh S g) S2 := by
    rcases hx with e | e <;> rw [e.1, e.2]
    · have := L3.im; rw [e.1] at this; exact this
    · have := L3.st; rw [e.1] at this; exact this
  have kindT : ∀ a, S ≤ a → a ≤ S + 244 → sh.2.1 a ≠ 10 ∧ sh.2.1 a ≠ 12 := by
    intro a u v
    by_cases q0 : a = S
    · rw [q0, T.1]; decide
    by_cases q1 : a = S + 1
    · rw [q1, T.2.1.2.1]; decide
    by_cases q2 : a = S + 2
    · rw [q2, T.2.2.1.2.1]; decide
    by_cases q3 : a ≤ S + 10
    · have := (T.ta (k := a - (S + 3)) (by omega)).1
      rw [show S + 3 + (a - (S + 3)) = a by omega] at this
      rw [this]; decide
    by_cases q4 : a = S + 11
    · rw [q4, tSg]; decide
    by_cases q5 : a = S + 12
    · rw [q5, T.2.2.2.2.1.2.1]; decide
    by_cases q6 : a ≤ S + 44
    · have F := T.ff (k := (a - (S + 13)) / 2) (by omega)
      by_cases o : (a - (S + 13)) % 2 = 0
      · rw [show a = S + 13 + 2 * ((a - (S + 13)) / 2) by omega, F.1]; decide
      · have := F.2.2.1
        rw [show S + 13 + 2 * ((a - (S + 13)) / 2) + 1 = a by omega] at this
        rw [this]; decide
    · obtain ⟨w0, ⟨-, w1⟩, -, w2⟩ := T.ca (k := (a - (S + 45)) / 5) (by omega)
      have m := Nat.div_add_mod (a - (S + 45)) 5
      have ml := Nat.mod_lt (a - (S + 45)) (show 0 < 5 by decide)
      obtain ⟨b, hb⟩ : ∃ b, S + 45 + 5 * ((a - (S + 45)) / 5) = b := ⟨_, rfl⟩
      rw [hb] at w0 w1 w2
      have cs : a = b ∨ a = b + 1 ∨ a = b + 1 + 1 ∨ a = b + 3 ∨ a = b + 3 + 1 := by omega
      rcases cs with e | e | e | e | e <;> rw [e]
      · rw [w0]; decide
      · rw [w1.1]; decide
      · rw [w1.2.2.1]; decide
      · rw [w2.1]; decide
      · rw [w2.2.2.1]; decide
  have saK : ∀ (I3 : Nat → Int → Int), (∀ a, (a < S ∨ S + 244 < a) → I3 a = I a) → ∀ (n : Nat) (t : Tr n) (a : Nat), SA sh I n t a → SA (shSg sh S g) I3 n t a := fun I3 h3 n t a h9 =>
    saE I3 n t a (SA.keep (fun b hb => h3 b (by
      by_cases c : S ≤ b ∧ b ≤ S + 244
      · have := kindT b c.1 c.2
        omega
      · omega)) n t a h9)
  -- the source, where the signs' row has moved
  have h3 : SR (shSg sh S g) I2 S2 W := h.q hW (fun _ _ _ => rfl) (fun a u v => kk2 a (by omega)) ⟨up1_n _ _ (by omega), up1_n _ _ (by omega)⟩ (saK I2 kk2)
  obtain ⟨-, -, -, s3, G, g1, g2⟩ := SR_iff.mp h3
  obtain ⟨π, hπ⟩ := T3.ap
  obtain ⟨I4, e4, r4, k4⟩ := x9_l82 (J := J) T3 T32 hd h3 hW hπ g2 (W 4 + W 5).toNat 0 I2 (by omega) (fun k hk => by omega) AF.refl
  rw [show ((0 : Nat) : Int) = 0 from rfl] at e4
  have src : ∀ k : Int, I4 S2 k = I S2 k := fun k => by rw [k4 _ (by omega), kk2 _ (by omega)]
  have hsrc := h.1
  obtain ⟨I5, hI5⟩ : ∃ I5, up1 I4 S (upz (upz (upz (upz (upz (upz (I4 S) 4 (W 0)) 5 (W 1)) 6 (W 2)) 7 (W 3)) 8 (W 4 + W 5)) 9 (W 4)) = I5 := ⟨_, rfl⟩
  have b111 : s_X9_be_b111 S S2 (shSg sh S g, I4, J) = some (shSg sh S g, I5, J) := by
    have ns : S2 ≠ S := by omega
    unfold s_X9_be_b111
    rw [s_gI T32, bsome, src, hsrc.1.1, s_pI T3, bsome, s_gI T32, bsome, up1_n _ _ ns, src, hsrc.1.2.1, s_pI T3, bsome, up1_s, up1_up1, s_gI T32, bsome, up1_n _ _ ns, src, hsrc.1.2.2.1, s_pI T3, bsome, up1_s, up1_up1, s_gI T32, bsome, up1_n _ _ ns, src, hsrc.1.2.2.2, s_pI T3, bsome, up1_s, up1_up1, s_gI T32, bsome, up1_n _ _ ns, src, hsrc.2.2, s_pI T3, bsome, up1_s, up1_up1, s_gI T32, bsome, up1_n _ _ ns, src, hsrc.2.1, s_pI T3, bsome, up1_s, up1_up1, hI5]
  have o5 : ∀ a, a ≠ S → I5 a = I4 a := fun a ha => by rw [← hI5, up1_n _ _ ha]
  have out : ∀ a, (a < S ∨ S + 244 < a) → I5 a = I a := fun a ha => by rw [o5 a (by omega), k4 a (by omega), kk2 a ha]
  have gR : (shSg sh S g).2.2.2 (S + 11) = g := up1_s _ _ _
  refine ⟨g, I5, ?_, L3, SR_iff.mpr ⟨?_, fun f hf => ?_, fun t ht j u v => ?_, fun s hs => ?_, ⟨G, g1, fun k hk => ?_⟩⟩, fun i hi => ?_, out⟩
  · unfold s_X9_be
    rw [e1, e2]
    unfold s_X9_be_b65
    rw [s_sg T2, bsome, s_sg T, bsome, cq, bsome, e4, b111]
  · unfold SRc
    rw [← hI5, up1_s, upz_n _ _ (by decide), upz_n _ _ (by decide), upz_n _ _ (by decide), upz_n _ _ (by decide), upz_n _ _ (by decide), upz_s, upz_n _ _ (by decide), upz_n _ _ (by decide), upz_n _ _ (by decide), upz_n _ _ (by decide), upz_s, upz_n _ _ (by decide), upz_n _ _ (by decide), upz_n _ _ (by decide), upz_s, upz_n _ _ (by decide), upz_n _ _ (by decide), upz_s, upz_s, upz_n _ _ (by decide), upz_s]
    exact ⟨⟨rfl, rfl, rfl, rfl⟩, rfl, rfl⟩
  · have c1 := hW.c1
    exact (f2 f hf).eq (by rw [o5 _ (by omega), k4 _ (by omega)]) (by rw [o5 _ (by omega), k4 _ (by omega)])
  · have c2 := hW.c2
    rw [o5 _ (by omega), k4 _ (by omega)]
    exact t2 t ht j u v
  · have c3 := hW.c3
    obtain ⟨t, a, b1, b2, b3, b4⟩ := h.2.2.2.1 s hs
    exact ⟨t, a, by rw [gR, ge _ (by omega) (by omega)]; exact b1, b2, saK I5 out _ _ _ b3, b4⟩
  · obtain ⟨l, l1, l2, l3, l4, l5, l6⟩ := r4 k hk
    exact ⟨l, l1, l2, by rw [o5 _ (by omega)]; exact l3, l4.eq (o5 _ (by omega)) (o5 _ (by omega)), l5.eq (o5 _ (by omega)) (o5 _ (by omega)), l6⟩
  · have := hg i hi
    show (match (shSg sh S g).2.2.2 (S + 11) (i : Int) with | none => true | some a => isSg (sh.2.1 a)) = true
    rw [gR, ge _ (by omega) (by omega)]
    exact this
theorem x_image (L : CL sh x) (hS : SR sh I (x + 16) W) (hW : WI W) (hg : SGA sh (x + 16)) :
    ∃ (g : Int → Option Nat) (I' : Nat → Int → Int), s_X1_image x (sh, I, J) = some (shSg sh (x + 261) g, I', J) ∧ CL (shSg sh (x + 261) g) x ∧ SR (shSg sh (x + 261) g) I' (x + 261) W ∧ SGA (shSg sh (x + 261) g) (x + 261) ∧ I' x = upz (I x) 18 1 ∧ ∀ a, a ≠ x → (a < x + 261 ∨ x + 505 < a) → I' a = I a := by
  obtain ⟨g, I1, e1, l1, s1, g1, o1⟩ := x9_be (J := J) L (S := x + 261) (S2 := x + 16) (Or.inr ⟨rfl, rfl⟩) hS hW hg
  obtain ⟨I2, hI2⟩ : ∃ I2, up1 I1 x (upz (I1 x) 18 1) = I2 := ⟨_, rfl⟩
  have o2 : ∀ a, a ≠ x → I2 a = I1 a := fun a h => by rw [← hI2, up1_n _ _ h]
  have tx : (shSg sh (x + 261) g).2.1 x = 0 := l1.t
  refine ⟨g, I2, ?_, l1, s1.q hW (fun _ _ _ => rfl) (fun a u v => o2 a (by omega)) ⟨rfl, rfl⟩ (fun n t a h => SA.keep (fun b hb => o2 b (fun e => by rw [e, tx] at hb; omega)) n t a h), g1, by rw [← hI2, up1_s, o1 _ (by omega)], fun a u v => by rw [o2 a u, o1 a (by omega)]⟩
  unfold s_X1_image
  rw [l_im L, bsome, l_st L, bsome, s_ck L.im, bsome, e1, bsome, l_pI l1, bsome, hI2]
theorem x_back (L : CL sh x) {W2 : Int → Int} (hS : SR sh I (x + 261) W2) (hW : WI W2) (hg : SGA sh (x + 261)) (hk : I x 18 = 1) :
    ∃ (g : Int → Option Nat) (I' : Nat → Int → Int), s_X1_back x (sh, I, J) = some (1, (shSg sh (x + 16) g, I', J)) ∧ CL (shSg sh (x + 16) g) x ∧ SR (shSg sh (x + 16) g) I' (x + 16) W2 ∧ SGA (shSg sh (x + 16) g) (x + 16) ∧ I' (x + 5 + 1) 0 = W2 0 ∧ ∀ a, a ≠ x + 5 + 1 → (a < x + 16 ∨ x + 260 < a) → I' a = I a := by
  obtain ⟨g, I1, e1, l1, s1, g1, o1⟩ := x9_be (J := J) L (S := x + 16) (S2 := x + 261) (Or.inl ⟨rfl, rfl⟩) hS hW hg
  have D := l1.dl
  have h4 : I1 (x + 16) 4 = W2 0 := s1.1.1.1
  obtain ⟨I2, hI2⟩ : ∃ I2, up1 I1 (x + 5 + 1) (upz (I1 (x + 5 + 1)) 0 (W2 0)) = I2 := ⟨_, rfl⟩
  have o2 : ∀ a, a ≠ x + 5 + 1 → I2 a = I1 a := fun a h => by rw [← hI2, up1_n _ _ h]
  refine ⟨g, I2, ?_, l1, s1.q hW (fun _ _ _ => rfl) (fun a u v => o2 a (by omega)) ⟨rfl, rfl⟩ (fun n t a h => SA.keep (fun b hb => o2 b (fun e => by rw [e, D.ff] at hb; omega)) n t a h), g1, by rw [← hI2, up1_s, upz_s], fun a u v => by rw [o2 a u, o1 a (by omega)]⟩
  unfold s_X1_back
  rw [l_gI L, bsome, hk, if_neg (show ¬ w32 1 = 0 by decide), l_st L, bsome, l_im L, bsome, s_ck L.st, bsome, e1, bsome, l_dk l1, bsome, d_f D, bsome, l_st l1, bsome, s_gI l1.st, bsome, h4, pI_m D.ff, bsome, hI2]
theorem x_back0 (L : CL sh x) (hk : I x 18 = 0) : s_X1_back x (sh, I, J) = some (0, (sh, I, J)) := by
  unfold s_X1_back
  rw [l_gI L, bsome, hk, if_pos (show w32 0 = 0 from rfl)]
end CIm
