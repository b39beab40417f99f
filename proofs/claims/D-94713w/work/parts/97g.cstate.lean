/-! the two together: the state moves -/
set_option maxRecDepth 100000
theorem mul_nz {p a b : Int} (hp : Pp p) (ha : a % p ≠ 0) (hb : b % p ≠ 0) : a * b % p ≠ 0 := by
  intro h
  have pb := hp.b
  have ab := emod_b hp a
  have k : (a % p * ivS p (a % p)) % p = 1 := ivS_ok hp (by omega) (by omega)
  apply hb
  have e1 : (a % p * ivS p (a % p)) * b % p = b % p := by
    rw [← emod_mul_l (a % p * ivS p (a % p)) b p, k, Int.one_mul]
  have e2 : (a % p * ivS p (a % p)) * b % p = (a * b % p) * ivS p (a % p) % p := by
    have : (a % p * ivS p (a % p)) * b = a % p * (b * ivS p (a % p)) := by grind
    rw [this, emod_mul_l, emod_mul_l, ← Int.mul_assoc]
  rw [← e1, e2, h, Int.zero_mul, Int.zero_emod]
theorem dtP_jn (a b c d e f g h : Int) : dtP (a * e + b * g) (a * f + b * h) (c * e + d * g) (c * f + d * h) = dtP a b c d * dtP e f g h := by
  unfold dtP
  grind
theorem wT_jn {p a b c d e f g h : Int} (hp : Pp p) (h1 : wT p a b c d) (h2 : wT p e f g h) : wT p ((a * e + b * g) % p) ((a * f + b * h) % p) ((c * e + d * g) % p) ((c * f + d * h) % p) := by
  refine ⟨emod_b hp _, emod_b hp _, emod_b hp _, emod_b hp _, ?_⟩
  rw [dtP_mod, dtP_jn]
  exact mul_nz hp h1.2.2.2.2 h2.2.2.2.2
theorem wT_iv {p a b c d : Int} (hp : Pp p) (h1 : wT p a b c d) : wT p (ivT p a b c d).1 (ivT p a b c d).2.1 (ivT p a b c d).2.2.1 (ivT p a b c d).2.2.2 := by
  obtain ⟨k1, k2, k3, k4⟩ := ivT_ok hp h1.2.2.2.2
  refine ⟨emod_b hp _, emod_b hp _, emod_b hp _, emod_b hp _, fun h => ?_⟩
  have pb := hp.b
  have e := dtP_mod (p := p) (a * (ivT p a b c d).1 + b * (ivT p a b c d).2.2.1) (a * (ivT p a b c d).2.1 + b * (ivT p a b c d).2.2.2) (c * (ivT p a b c d).1 + d * (ivT p a b c d).2.2.1) (c * (ivT p a b c d).2.1 + d * (ivT p a b c d).2.2.2)
  rw [k1, k2, k3, k4, dtP_mod, dtP_jn, ← emod_mul_r, h, Int.mul_zero] at e
  have e2 : (1 : Int) % p = 0 := e
  rw [Int.emod_eq_of_lt (by omega) (by omega)] at e2
  omega
section CSx
variable {sh sh' sh1 : Sh} {I I' I1 I2 J J' : Nat → Int → Int} {x c : Nat} {W W' V B B' : Int → Int} {kp n fa : Int}
/-- a shape where all stays but for rows, signs, acts -/
def SH (x : Nat) (sh sh' : Sh) : Prop := (sh.1.1 ≤ sh'.1.1 ∧ BD sh') ∧ (∀ b, b < sh.1.1 → sh'.2.1 b = sh.2.1 b ∧ sh'.2.2.1 b = sh.2.2.1 b) ∧ ∀ b, b < sh.1.1 → b ≠ x + 515 → b ≠ x + 27 → b ≠ x + 28 → b ≠ x + 272 → b ≠ x + 273 → sh'.2.2.2 b = sh.2.2.2 b
theorem SF.toh {k s : Nat} (h : SF x sh sh' k s) : SH x sh sh' := ⟨h.1, h.2.1, fun b hb u _ _ _ _ => h.2.2.1 b hb u⟩
theorem LAY.toh (L : LAY sh x) (f : SH x sh sh') (C : CL sh' x) (g1 : SGA sh' (x + 16)) (g2 : SGA sh' (x + 261)) : LAY sh' x := by
  obtain ⟨⟨a1, a2⟩, a3, a4⟩ := f
  obtain ⟨⟨L1, L2, L3⟩, ⟨L4, L5⟩, L6, L7, L8⟩ := L
  exact ⟨⟨C, L2.ext (fun a _ _ => a3 a (by omega)) (a4 _ (by omega) (by omega) (by omega) (by omega) (by omega) (by omega)), L3.ext (a3 _ (by omega))⟩, ⟨by omega, a2⟩, fun b h1 h2 => by rw [(a3 b (by omega)).1]; exact L6 b h1 h2, g1, g2⟩
theorem SA.toh (L : LAY sh x) (f : SH x sh sh') (hI : ∀ b, b < sh.1.1 → (b < x ∨ x + 694 < b) → I' b = I b) {m : Nat} {t : Tr m} {q : Nat} (g : SA sh I m t q) : SA sh' I' m t q := by
  obtain ⟨⟨a1, a2⟩, a3, a4⟩ := f
  obtain ⟨⟨L1, L2, L3⟩, ⟨L4, L5⟩, L6, L7, L8⟩ := L
  have t5 := L1.rw.2.1.1
  have u1 := L1.st.2.2.2.1.2.1
  have u2 := L1.st.2.2.2.2.1.2.1
  have u3 := L1.im.2.2.2.1.2.1
  have u4 := L1.im.2.2.2.2.1.2.1
  have low : ∀ b, sh.2.1 b = 2 ∨ sh.2.1 b = 10 ∨ sh.2.1 b = 11 ∨ sh.2.1 b = 12 ∨ sh.2.1 b = 13 ∨ sh.2.1 b = 14 → b < sh.1.1 := fun b hb => BD.lt L5 (by omega)
  refine SA.ext (sh := sh) (sh' := sh') (fun b hb => ⟨(a3 b (low b hb)).1, a4 b (low b hb) (fun e => by rw [e] at hb; omega) (fun e => by rw [show x + 27 = x + 16 + 11 by omega] at e; rw [e] at hb; omega) (fun e => by rw [show x + 28 = x + 16 + 12 by omega] at e; rw [e] at hb; omega) (fun e => by rw [show x + 272 = x + 261 + 11 by omega] at e; rw [e] at hb; omega) (fun e => by rw [show x + 273 = x + 261 + 12 by omega] at e; rw [e] at hb; omega)⟩) _ _ _ (SA.keep (fun b hb => hI b (low b (by omega)) ?_) _ _ _ g)
  by_cases h1 : x ≤ b ∧ b ≤ x + 694
  · have := L6 b h1.1 h1.2
    omega
  · omega
/-- what the component holds, where its state moves -/
theorem CR.st {n' fa' : Int} (L : LAY sh x) (hV : kp = 1 → WI V) (h : CR sh I x W V B kp n fa) (f : SH x sh sh') (S' : SR sh' I' (x + 16) W') (e0 : I' (x + 5 + 1) 0 = W' 0) (hI : ∀ b, b < sh.1.1 → ¬ xS x b → (b < x + 678 ∨ x + 694 < b) → b ≠ x → b ≠ x + 1 → b ≠ x + 1 + 1 → b ≠ x + 4 → b ≠ x + 5 + 1 → (b < x + 16 ∨ x + 260 < b) → I' b = I b) (hr : sh'.2.2.2 (x + 261 + 11) = sh.2.2.2 (x + 261 + 11) ∧ sh'.2.2.2 (x + 261 + 12) = sh.2.2.2 (x + 261 + 12)) (h3 : I' (x + 1) 3 = n') (ht : ∀ j : Int, 0 ≤ j → j < 400 → I' (x + 1 + 1) j = B' j) (h16 : I' x 16 = fa') (h18 : I' x 18 = I x 18) : CR sh' I' x W' V B' kp n' fa' := by
  obtain ⟨c1, c2, c3, c4, c5, c6, c7⟩ := h
  have L4 := L.2.1.1
  have sa : ∀ (m : Nat) (t : Tr m) (q : Nat), SA sh I m t q → SA sh' I' m t q := fun m t q g => SA.toh L f (fun b hb hh => hI b hb (fun e => by unfold xS at e; omega) (by omega) (by omega) (by omega) (by omega) (by omega) (by omega) (by omega)) g
  exact ⟨S', e0, by rw [h18]; exact c3, fun hk => (c4 hk).q (hV hk) (fun _ _ _ => rfl) (fun a h1 h2 => hI a (by omega) (fun e => by unfold xS at e; omega) (by omega) (by omega) (by omega) (by omega) (by omega) (by omega) (by omega)) hr sa, h3, ht, h16⟩
/-- an answer where the world moves -/
theorem OCQ.w {yx : Option (Ex ⊕ (Int × Me))} {yt : Me → Option (Int × Me)} {k1 k2 : Nat} {r : Int} (V : IV sh I x (c + 1)) (hx : CSt yx sh sh1 I J x r W') (L1 : LAY sh1 x) (f : SH x sh sh1) (hr : sh1.2.2.2 (x + 261 + 11) = sh.2.2.2 (x + 261 + 11) ∧ sh1.2.2.2 (x + 261 + 12) = sh.2.2.2 (x + 261 + 12)) (hW' : WI W') (e0 : W' 0 = I (x + 678 + 1) 0) (R1 : RM sh1 c) (hq : ∀ (I1 J2 : Nat → Int → Int), TL sh1 (x + 678) → (∀ a, x + 678 ≤ a → a ≤ x + 693 → I1 a = I a) → QW (yt (sh1, I1, J2)) sh1 I1 J2 (x + 678) r W') : OCQ x c yx yt k1 k2 := by
  obtain ⟨I1, J1, e, S', fr, -⟩ := hx
  obtain ⟨L, C, O, -⟩ := V
  have L4 := L.2.1.1
  have o : ∀ b, b < x + 695 → ¬ xS x b → (b < x + 16 ∨ x + 260 < b) → I1 b = I b := fun b h1 h2 h3 => fr b (by omega) h2 h3
  have C1 : CR sh1 I1 x W' (I (x + 678 + 2)) (I (x + 678 + 5)) (I (x + 678) 3) (I (x + 678) 11) (I (x + 678) 17) := by
    refine C.st L O.2.2.1 f S' ?_ (fun b h1 h2 _ _ _ _ _ _ h3 => fr b h1 h2 h3) hr ?_ (fun j u v => ?_) ?_ ?_
    · rw [o _ (by omega) (fun e => by unfold xS at e; omega) (by omega), e0]
      exact C.2.1
    · rw [o _ (by omega) (fun e => by unfold xS at e; omega) (by omega)]
      exact C.2.2.2.2.1
    · rw [o _ (by omega) (fun e => by unfold xS at e; omega) (by omega)]
      exact C.2.2.2.2.2.1 j u v
    · rw [o _ (by omega) (fun e => by unfold xS at e; omega) (by omega)]
      exact C.2.2.2.2.2.2
    · rw [o _ (by omega) (fun e => by unfold xS at e; omega) (by omega)]
  have E : ∀ a, x + 678 ≤ a → a ≤ x + 693 → I1 a = I a := fun a h1 h2 => o a (by omega) (fun e => by unfold xS at e; omega) (by omega)
  refine Or.inl ⟨r, sh1, I1, J1, e, L1.1.2.2, fun J2 => ?_⟩
  obtain ⟨I2, J3, e1, e2, e3⟩ := hq I1 J2 L1.1.2.1 E
  have tn : ∀ a, a ≠ x + 678 → a ≠ x + 678 + 1 → (a < x + 678 + 3 ∨ x + 678 + 15 < a ∨ a = x + 678 + 5) → I2 a = I1 a := fun a u w v => by rw [e2.1 a u v, up1_n _ _ w, thr_n u]
  have tm : ∀ k : Int, k = 3 ∨ k = 11 ∨ k = 17 → I2 (x + 678) k = I (x + 678) k := fun k hk => by rw [e2.2 k (by omega), up1_n _ _ (by omega), thr_k (by omega), E _ (by omega) (by omega)]
  refine ⟨I2, J3, e1, e3 _ (by omega), by rw [e2.2 0 (by omega), up1_n _ _ (by omega), thr_0], IV.of L1 C1 ⟨hW', O.2⟩ R1 (fun b hb => tn b (by omega) (by omega) (by omega)) (by rw [e2.w, up1_s]) (by rw [tn _ (by omega) (by omega) (by omega), E _ (by omega) (by omega)]) (by rw [tn _ (by omega) (by omega) (by omega), E _ (by omega) (by omega)]) (tm 3 (by omega)) (tm 11 (by omega)) (tm 17 (by omega))⟩
theorem IV.rm (V : IV sh I x (c + 1)) : RM sh c := ⟨by have := V.2.2.2.1; omega, by have := V.2.2.2.2; omega⟩
theorem qc_join (V : IV sh I x (c + 1)) {t u : Int} (ht : i32 t) (hu : i32 u) : OCQ x c (s_X1_join x t u (sh, I, J)) (fun μ => s_X11_join (x + 678) t u μ) 3 2 := by
  have y := x_join (I := I) (J := J) V.L V.R V.S V.P V.Wd ht hu
  have c2 := V.Wd.c2
  by_cases h : (0 ≤ t ∧ t < I (x + 678 + 1) 2) ∧ (0 ≤ u ∧ u < I (x + 678 + 1) 2)
  · by_cases h8 : I (x + 678 + 1) 2 < 8
    · exact OCQ.w V (y.1 h.1 h.2 h8) V.1 (SF.refl V.1).toh ⟨rfl, rfl⟩ (V.Wd.addT h8 (wT_jn V.Wd.pp (V.Wd.t h.1.1 h.1.2) (V.Wd.t h.2.1 h.2.2))) (addT_o _ (by omega) (by omega)) V.rm (fun I1 J2 T e => by have e1 := e (x + 678 + 1) (by omega) (by omega); have z := t_join (I := I1) (J := J2) T (by rw [e1]; exact V.Wd) ht hu; rw [e1] at z; exact z.1 h.1 h.2 h8)
    · exact OCQ.b V (y.2.2 h.1 h.2 (by omega)) (Or.inr ⟨rfl, by decide, rfl⟩) (fun sh1 I1 J2 T e => by have e1 := e (x + 678 + 1) (by omega) (by omega); have z := t_join (I := I1) (J := J2) T (by rw [e1]; exact V.Wd) ht hu; rw [e1] at z; exact z.2.2 h.1 h.2 (by omega))
  · exact OCQ.b V (y.2.1 h) (Or.inl ⟨rfl, rfl⟩) (fun sh1 I1 J2 T e => by have e1 := e (x + 678 + 1) (by omega) (by omega); have z := t_join (I := I1) (J := J2) T (by rw [e1]; exact V.Wd) ht hu; rw [e1] at z; exact z.2.1 h)
theorem qc_turn (V : IV sh I x (c + 1)) {t : Int} (ht : i32 t) : OCQ x c (s_X1_turn x t (sh, I, J)) (fun μ => s_X11_turn (x + 678) t μ) 3 2 := by
  have y := x_turn (I := I) (J := J) V.L V.R V.S V.P V.Wd ht rfl
  have c2 := V.Wd.c2
  by_cases h : 0 ≤ t ∧ t < I (x + 678 + 1) 2
  · by_cases h8 : I (x + 678 + 1) 2 < 8
    · exact OCQ.w V (y.1 h h8) V.1 (SF.refl V.1).toh ⟨rfl, rfl⟩ (V.Wd.addT h8 (wT_iv V.Wd.pp (V.Wd.t h.1 h.2))) (addT_o _ (by omega) (by omega)) V.rm (fun I1 J2 T e => by have e1 := e (x + 678 + 1) (by omega) (by omega); have z := t_turn (I := I1) (J := J2) T (by rw [e1]; exact V.Wd) ht; rw [e1] at z; exact z.1 h h8)
    · exact OCQ.b V (y.2.2 h (by omega)) (Or.inr ⟨rfl, by decide, rfl⟩) (fun sh1 I1 J2 T e => by have e1 := e (x + 678 + 1) (by omega) (by omega); have z := t_turn (I := I1) (J := J2) T (by rw [e1]; exact V.Wd) ht; rw [e1] at z; exact z.2.2 h (by omega))
  · exact OCQ.b V (y.2.1 h) (Or.inl ⟨rfl, rfl⟩) (fun sh1 I1 J2 T e => by have e1 := e (x + 678 + 1) (by omega) (by omega); have z := t_turn (I := I1) (J := J2) T (by rw [e1]; exact V.Wd) ht; rw [e1] at z; exact z.2.1 h)
/-- refused behind a shape -/
theorem OCQ.b2 {yx : Option (Ex ⊕ (Int × Me))} {yt : Me → Option (Int × Me)} {k1 k2 k ks ss : Nat} {cd : Int} (V : IV sh I x (c + 1)) (hx : CB2 yx sh sh1 I J k) (f : SF x sh sh1 ks ss) (hks : ks + 1 ≤ 1000 ∧ ss + 6 ≤ 10000) (hk : (k = k1 ∧ cd = 1) ∨ (k = k2 ∧ k2 ≠ 100 ∧ cd = 2)) (hq : ∀ (sh1 : Sh) (I1 J2 : Nat → Int → Int), TL sh1 (x + 678) → (∀ a, x + 678 ≤ a → a ≤ x + 693 → I1 a = I a) → QB (yt (sh1, I1, J2)) sh1 I1 J2 (x + 678) cd) : OCQ x c yx yt k1 k2 := by
  obtain ⟨I1, J1, e, o⟩ := hx
  have L4 := V.1.2.1.1
  have h := V.hf (I1 := I1) (f.trans (SF.ex (V.1.sf f))) hks.1 hks.2 (fun b u _ _ _ => (o b u).1) (by rw [(o x (by omega)).1]) (by rw [(o x (by omega)).1])
  exact OCQ.r V e h hk (hq _ _ _ h.1.1.2.1 h.2.2.1)
theorem qc_table (V : IV sh I x (c + 1)) {a b d e : Int} (ha : i32 a) (hb : i32 b) (hd : i32 d) (he : i32 e) : OCQ x c (s_X1_table x a b d e (sh, I, J)) (fun μ => s_X11_table (x + 678) a b d e μ) 0 2 := by
  have L4 := V.1.2.1
  have y := x_table (I := I) (J := J) V.L V.R L4.1 L4.2 V.S V.P V.Wd ha hb hd he
  have c2 := V.Wd.c2
  have hp := V.Wd.pp
  have sf : SF x sh (shNw sh 101 4 4) 1 4 := SF.new L4.1 L4.2 V.L.rp
  by_cases h : dtP a b d e % I (x + 678 + 1) 0 = 0
  · exact OCQ.b2 V (y.2.1 h) sf (by omega) (Or.inl ⟨rfl, rfl⟩) (fun sh1 I1 J2 T E => by have e1 := E (x + 678 + 1) (by omega) (by omega); have z := t_table (I := I1) (J := J2) T (by rw [e1]; exact V.Wd) ha hb hd he; rw [e1] at z; exact z.2.1 h)
  · by_cases h8 : I (x + 678 + 1) 2 < 8
    · refine OCQ.w V (y.1 h h8) (V.1.sf sf) sf.toh ⟨sf.2.2.1 _ (by omega) (by omega), sf.2.2.1 _ (by omega) (by omega)⟩ (V.Wd.addT h8 ⟨emod_b hp _, emod_b hp _, emod_b hp _, emod_b hp _, by rw [dtP_mod]; exact h⟩) (addT_o _ (by omega) (by omega)) ⟨?_, ?_⟩ (fun I1 J2 T E => by have e1 := E (x + 678 + 1) (by omega) (by omega); have z := t_table (I := I1) (J := J2) T (by rw [e1]; exact V.Wd) ha hb hd he; rw [e1] at z; exact z.1 h h8)
      · have := V.2.2.2.1
        show 1000 * c ≤ sh.1.2.1 - 1
        omega
      · have := V.2.2.2.2
        show 10000 * c ≤ sh.1.2.2 - 4
        omega
    · exact OCQ.b2 V (y.2.2 h (by omega)) sf (by omega) (Or.inr ⟨rfl, by decide, rfl⟩) (fun sh1 I1 J2 T E => by have e1 := E (x + 678 + 1) (by omega) (by omega); have z := t_table (I := I1) (J := J2) T (by rw [e1]; exact V.Wd) ha hb hd he; rw [e1] at z; exact z.2.2 h (by omega))
theorem qc_mix (V : IV sh I x (c + 1)) {f t : Int} (hf : i32 f) (ht : i32 t) : OCQ x c (s_X1_mix x f t (sh, I, J)) (fun μ => s_X11_mix (x + 678) f t μ) 3 100 := by
  have L4 := V.1.2.1
  have y := x_mix (I := I) (J := J) V.L V.R V.S V.P V.Wd hf ht
  have c4 := V.Wd.c4
  by_cases h : (0 ≤ f ∧ f < I (x + 678 + 1) 1) ∧ (0 ≤ t ∧ t < I (x + 678 + 1) 2)
  · obtain ⟨g, hA, hx⟩ := y.1 h.1 h.2
    have n2 : ∀ a, a ≠ x + 28 → (shA2 sh (x + 16) g).2.2.2 a = sh.2.2.2 a := fun a ha => up1_n _ _ (by omega)
    have f2 : SH x sh (shA2 sh (x + 16) g) := ⟨⟨Nat.le_refl _, L4.2⟩, fun b _ => ⟨rfl, rfl⟩, fun b _ _ _ u _ _ => n2 b u⟩
    obtain ⟨π0, p0⟩ := V.L.rp
    obtain ⟨π2, p2⟩ := V.L.im.ap
    have C2 : CL (shA2 sh (x + 16) g) x := V.L.ext (fun a _ _ => ⟨rfl, rfl⟩) (fun a _ _ _ u _ _ _ => n2 a u) ⟨π0, p0.eq (n2 _ (by omega))⟩ hA ⟨π2, p2.eq (n2 _ (by omega))⟩
    have L2 : LAY (shA2 sh (x + 16) g) x := V.1.toh f2 C2 (fun i hi => by rw [n2 _ (by omega)]; exact V.1.2.2.2.1 i hi) (fun i hi => by rw [n2 _ (by omega)]; exact V.1.2.2.2.2 i hi)
    refine OCQ.w V hx L2 f2 ⟨n2 _ (by omega), n2 _ (by omega)⟩ ((V.Wd.pshA h.1.1 h.1.2 h.2.1 h.2.2).mixF h.1.1 (by rw [pshA_o _ (by omega) (by decide) (by decide) (by decide)]; exact h.1.2)) (by rw [mixF_o _ (by omega), pshA_o _ (by omega) (by decide) (by decide) (by decide)]) V.rm (fun I1 J2 T e => by have e1 := e (x + 678 + 1) (by omega) (by omega); have z := t_mix (I := I1) (J := J2) T (by rw [e1]; exact V.Wd) hf ht; rw [e1] at z; exact z.1 h.1 h.2)
  · exact OCQ.b V (y.2 h) (Or.inl ⟨rfl, rfl⟩) (fun sh1 I1 J2 T e => by have e1 := e (x + 678 + 1) (by omega) (by omega); have z := t_mix (I := I1) (J := J2) T (by rw [e1]; exact V.Wd) hf ht; rw [e1] at z; exact z.2 h)
end CSx
