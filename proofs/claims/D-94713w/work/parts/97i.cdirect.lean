/-! the two together: what isn't refused -/
set_option maxRecDepth 100000
section CDi
variable {sh sh' sh1 : Sh} {I I' I1 I2 J J' : Nat → Int → Int} {x c : Nat} {W W' V B B' : Int → Int} {kp n fa : Int}
def OCD (x c : Nat) (y : Option (Int × Me)) (yt : Me → Option (Int × Me)) : Prop := ∃ (r : Int) (sh1 : Sh) (I1 J1 I2 J2 : Nat → Int → Int), y = some (r, (sh1, I1, J1)) ∧ TL sh1 (x + 678) ∧ yt (sh1, I1, J1) = some (r, (sh1, I2, J2)) ∧ IV sh1 I2 x c
theorem OCD.of {y : Option (Int × Me)} {yt : Me → Option (Int × Me)} (h : OCQ x c (y.map Sum.inr) yt 100 100) : OCD x c y yt := by
  rcases h with ⟨r, sh1, I1, J1, e, ar, h⟩ | ⟨k, cd, a, sh1, I1, J1, e, h⟩
  · cases y with
    | none => cases e
    | some v =>
      have hv : v = (r, (sh1, I1, J1)) := Sum.inr.inj (Option.some.inj e)
      obtain ⟨I2, J3, e1, -, -, V⟩ := h J1
      exact ⟨r, sh1, I1, J1, I2, J3, by rw [hv], V.1.1.2.1, e1, V⟩
  · cases y with
    | none => cases e
    | some v => cases e
theorem IV.same (V : IV sh I x (c + 1)) : HF sh I x c sh I := V.hf (SF.refl V.1) (by omega) (by omega) (fun _ _ _ _ _ => rfl) rfl rfl
theorem qd_undo (V : IV sh I x (c + 1)) : OCD x c (s_X1_undo x (sh, I, J)) (fun μ => s_X11_undo (x + 678) μ) := by
  have y := x_undo (J := J) V.L V.S V.Wd rfl
  have c4 := V.Wd.c4
  apply OCD.of
  by_cases h : I (x + 678 + 1) 4 = 0
  · refine OCQ.g V (r := -1) ⟨I, by rw [y.1 h]; rfl, AF.refl⟩ (fun sh1 I1 J2 es T e => ?_)
    have e1 := e (x + 678 + 1) (by omega) (by omega)
    have z := t_undo (I := I1) (J := J2) T (by rw [e1]; exact V.Wd) rfl
    rw [e1] at z
    exact z.1 h
  · obtain ⟨I1, e, S', o⟩ := y.2 h
    have hb := (V.Wd.a (a := I (x + 678 + 1) 4 - 1) (by omega) (by omega)).1
    refine OCQ.w V ⟨I1, J, by rw [e]; rfl, S', fun a _ _ u => o a u, fun _ _ => rfl⟩ V.1 (SF.refl V.1).toh ⟨rfl, rfl⟩ ((V.Wd.und h).mixF hb.1 (by rw [undW_o _ (by decide)]; exact hb.2)) (by rw [mixF_o _ (by omega), undW_o _ (by decide)]) V.rm (fun I1 J2 T e => ?_)
    have e1 := e (x + 678 + 1) (by omega) (by omega)
    have z := t_undo (I := I1) (J := J2) T (by rw [e1]; exact V.Wd) rfl
    rw [e1] at z
    exact z.2 h
theorem qd_redo (V : IV sh I x (c + 1)) : OCD x c (s_X1_redo x (sh, I, J)) (fun μ => s_X11_redo (x + 678) μ) := by
  have y := x_redo (J := J) V.L V.S V.Wd
  have c4 := V.Wd.c4
  apply OCD.of
  by_cases h : I (x + 678 + 1) 5 = 0
  · refine OCQ.g V (r := -1) ⟨I, by rw [y.1 h]; rfl, AF.refl⟩ (fun sh1 I1 J2 es T e => ?_)
    have e1 := e (x + 678 + 1) (by omega) (by omega)
    have z := t_redo (I := I1) (J := J2) T (by rw [e1]; exact V.Wd)
    rw [e1] at z
    exact z.1 h
  · obtain ⟨I1, e, S', o⟩ := y.2 h
    have hb := (V.Wd.a (a := I (x + 678 + 1) 4) (by omega) (by omega)).1
    refine OCQ.w V ⟨I1, J, by rw [e]; rfl, S', fun a _ _ u => o a u, fun _ _ => rfl⟩ V.1 (SF.refl V.1).toh ⟨rfl, rfl⟩ ((V.Wd.red h).mixF hb.1 (by rw [redW_o _ (by decide)]; exact hb.2)) (by rw [mixF_o _ (by omega), redW_o _ (by decide)]) V.rm (fun I1 J2 T e => ?_)
    have e1 := e (x + 678 + 1) (by omega) (by omega)
    have z := t_redo (I := I1) (J := J2) T (by rw [e1]; exact V.Wd)
    rw [e1] at z
    exact z.2 h
theorem qd_stock (V : IV sh I x (c + 1)) {k : Int} (hk : i32 k) : OCD x c (s_X1_stock x k (sh, I, J)) (fun μ => s_X11_stock (x + 678) k μ) := by
  apply OCD.of
  refine OCQ.g V (r := stkP (I (x + 678 + 1)) k) ⟨I, by rw [x_stock V.L V.S V.Wd hk]; rfl, AF.refl⟩ (fun sh1 I1 J2 es T e => ?_)
  have e1 := e (x + 678 + 1) (by omega) (by omega)
  have z := t_stock (I := I1) (J := J2) T (by rw [e1]; exact V.Wd) hk
  rw [e1] at z
  exact z
theorem qd_fault (V : IV sh I x (c + 1)) : OCD x c (s_X1_fault x (sh, I, J)) (fun μ => s_X11_fault (x + 678) μ) := by
  refine ⟨I (x + 678) 17, sh, I, J, _, J, ?_, V.T, t_fault V.T, (V.same.q V.2.2.1 HK.refl).1⟩
  rw [x_fault V.L, V.2.1.2.2.2.2.2.2]
/-- the tape alone moves -/
theorem IV.tape (V : IV sh I x (c + 1)) (hI : ∀ b, b ≠ x + 1 → b ≠ x + 1 + 1 → I1 b = I b) (h3 : I1 (x + 1) 3 = n) (ht : ∀ j : Int, 0 ≤ j → j < 400 → I1 (x + 1 + 1) j = B j) (hn : 0 ≤ n ∧ n ≤ 400) (hB : okB B) (tn : ∀ a, a ≠ x + 678 → a ≠ x + 678 + 5 → (a < x + 678 + 3 ∨ x + 678 + 15 < a) → I2 a = I1 a) (t5 : I2 (x + 678 + 5) = B) (tm : ∀ k : Int, k = 3 ∨ k = 17 → I2 (x + 678) k = I1 (x + 678) k) (t11 : I2 (x + 678) 11 = n) : IV sh I2 x c := by
  obtain ⟨L, C, O, R⟩ := id V
  have L4 := L.2.1.1
  have S' : SR sh I1 (x + 16) (I (x + 678 + 1)) := C.1.q O.1 (fun _ _ _ => rfl) (fun a u v => hI a (by omega) (by omega)) ⟨rfl, rfl⟩ (fun m t q g => SA.toh L (SF.refl L).toh (fun b _ h => hI b (by omega) (by omega)) g)
  have C1 : CR sh I1 x (I (x + 678 + 1)) (I (x + 678 + 2)) B (I (x + 678) 3) n (I (x + 678) 17) := by
    refine C.st L O.2.2.1 (SF.refl L).toh S' ?_ (fun b _ _ _ _ u v _ _ _ => hI b u v) ⟨rfl, rfl⟩ h3 ht ?_ ?_
    · rw [hI _ (by omega) (by omega)]
      exact C.2.1
    · rw [hI _ (by omega) (by omega)]
      exact C.2.2.2.2.2.2
    · rw [hI _ (by omega) (by omega)]
  exact IV.of L C1 ⟨O.1, O.2.1, O.2.2.1, hn, hB⟩ V.rm (fun b hb => tn b (by omega) (by omega) (by omega)) (by rw [tn _ (by omega) (by omega) (by omega), hI _ (by omega) (by omega)]) (by rw [tn _ (by omega) (by omega) (by omega), hI _ (by omega) (by omega)]) t5 (by rw [tm 3 (by omega), hI _ (by omega) (by omega)]) t11 (by rw [tm 17 (by omega), hI _ (by omega) (by omega)])
theorem w8_i (v : Int) : -128 ≤ w8 v ∧ w8 v < 128 := by unfold w8; omega
theorem okB_wr {B : Int → Int} (hB : okB B) (s : Int) (n : Nat) (a b c d e : Int) : okB (wr B s n (fdB a b c d e)) := fun j => by
  unfold wr
  split
  · exact w8_i _
  · exact hB j
theorem qd_feed (V : IV sh I x (c + 1)) {a b d e f : Int} : OCD x c (s_X1_feed x a b d e f (sh, I, J)) (fun μ => s_X11_feed (x + 678) a b d e f μ) := by
  obtain ⟨L, C, O, R⟩ := id V
  have y := x_feed (J := J) (a := a) (b := b) (c := d) (d := e) (e := f) V.L C.2.2.2.2.1 O.2.2.2.1
  have tp := C.2.2.2.2.2.1
  by_cases h : I (x + 678) 11 + 20 ≤ 400
  · obtain ⟨I1, e1, r1, r2, o⟩ := y.1 h
    have z := t_feed (I := I1) (J := J) (a := a) (b := b) (c := d) (d := e) (e := f) V.T (by rw [o _ (by omega) (by omega)]; exact O.2.2.2.1)
    rw [o (x + 678) (by omega) (by omega), o (x + 678 + 5) (by omega) (by omega)] at z
    obtain ⟨I2, e2, k2⟩ := z.1 h
    refine ⟨_, sh, I1, J, I2, J, e1, V.T, e2, V.tape (B := wr (I (x + 678 + 5)) (I (x + 678) 11) 20 (fdB a b d e f)) o (by rw [r1, upz_s]) (fun j u v => ?_) (by have := O.2.2.2.1; omega) (okB_wr O.2.2.2.2 _ _ _ _ _ _ _) (fun q u v w => ?_) ?_ (fun k hk => ?_) ?_⟩
    · rw [r2]
      unfold wr
      split
      · rfl
      · exact tp j u v
    · rw [k2.1 q u (by omega)]
      unfold tpd
      rw [up1_n _ _ u, up1_n _ _ v, thr_n u]
    · rw [k2.1 _ (by omega) (by omega)]
      unfold tpd
      rw [up1_n _ _ (by omega), up1_s]
    · rw [k2.2 k (by omega)]
      unfold tpd
      rw [up1_s, upz_n _ _ (by omega), up1_n _ _ (by omega), thr_k (by omega)]
    · rw [k2.2 11 (by omega)]
      unfold tpd
      rw [up1_s, upz_s]
  · have z := t_feed (I := I) (J := J) (a := a) (b := b) (c := d) (d := e) (e := f) V.T O.2.2.2.1
    exact ⟨_, sh, I, J, _, J, y.2 h, V.T, z.2 h, (V.same.q V.2.2.1 HK.refl).1⟩
theorem qd_end (V : IV sh I x (c + 1)) {a : Int} (ha : i32 a) : OCD x c (s_X1_end x a (sh, I, J)) (fun μ => s_X11_end (x + 678) a μ) := by
  obtain ⟨L, C, O, R⟩ := id V
  have y := x_end (J := J) V.L C.2.2.2.2.1 O.2.2.2.1 ha
  have tp := C.2.2.2.2.2.1
  by_cases h : 0 ≤ a ∧ a ≤ I (x + 678) 11
  · obtain ⟨I1, hI1⟩ : ∃ I1, up1 I (x + 1) (upz (I (x + 1)) 3 a) = I1 := ⟨_, rfl⟩
    have e1 := y.1 h
    rw [hI1] at e1
    have o : ∀ b, b ≠ x + 1 → b ≠ x + 1 + 1 → I1 b = I b := fun b u _ => by rw [← hI1, up1_n _ _ u]
    have z := t_end (I := I1) (J := J) V.T (by rw [o _ (by omega) (by omega)]; exact O.2.2.2.1) ha
    refine ⟨_, sh, I1, J, _, J, e1, V.T, z.1 (by rw [o _ (by omega) (by omega)]; exact h), V.tape (B := I (x + 678 + 5)) o (by rw [← hI1, up1_s, upz_s]) (fun j u v => ?_) (show 0 ≤ a ∧ a ≤ 400 by have := O.2.2.2.1; omega) O.2.2.2.2 (fun q u v w => ?_) ?_ (fun k hk => ?_) ?_⟩
    · rw [← hI1, up1_n _ _ (by omega)]
      exact tp j u v
    · unfold tpd
      rw [up1_n _ _ u, thr_n u]
    · unfold tpd
      rw [up1_n _ _ (by omega), thr_n (by omega), o _ (by omega) (by omega)]
    · unfold tpd
      rw [up1_s, upz_n _ _ (by omega), thr_k (by omega)]
    · unfold tpd
      rw [up1_s, upz_s]
  · have z := t_end (I := I) (J := J) V.T O.2.2.2.1 ha
    exact ⟨_, sh, I, J, _, J, y.2 h, V.T, z.2 h, (V.same.q V.2.2.1 HK.refl).1⟩
/-- a row of signs moves -/
theorem LAY.sg {S : Nat} {g : Int → Option Nat} (L : LAY sh x) (hS : S = x + 16 ∨ S = x + 261) (C : CL (shSg sh S g) x) (G : SGA (shSg sh S g) S) : LAY (shSg sh S g) x ∧ SH x sh (shSg sh S g) := by
  have n2 : ∀ a, a ≠ S + 11 → (shSg sh S g).2.2.2 a = sh.2.2.2 a := fun a h => up1_n _ _ h
  have f : SH x sh (shSg sh S g) := ⟨⟨Nat.le_refl _, L.2.1.2⟩, fun _ _ => ⟨rfl, rfl⟩, fun b _ _ u _ v _ => n2 b (by omega)⟩
  have sg : ∀ S2, S2 ≠ S → SGA sh S2 → SGA (shSg sh S g) S2 := fun S2 h h2 i hi => by
    rw [n2 _ (by omega)]
    exact h2 i hi
  refine ⟨L.toh f C ?_ ?_, f⟩
  · rcases hS with h | h
    · rw [h] at G ⊢
      exact G
    · exact sg _ (by omega) L.2.2.2.1
  · rcases hS with h | h
    · exact sg _ (by omega) L.2.2.2.2
    · rw [h] at G ⊢
      exact G
theorem qd_image (V : IV sh I x (c + 1)) : ∃ (sh1 : Sh) (I1 J1 I2 J2 : Nat → Int → Int), s_X1_image x (sh, I, J) = some (sh1, I1, J1) ∧ TL sh1 (x + 678) ∧ s_X11_image (x + 678) (sh1, I1, J1) = some (sh1, I2, J2) ∧ IV sh1 I2 x c := by
  obtain ⟨L, C, O, R⟩ := id V
  have L4 := L.2.1.1
  obtain ⟨g, I1, e, C1, S1, G1, kx, o⟩ := x_image (J := J) V.L V.S V.Wd L.2.2.2.1
  obtain ⟨L1, f⟩ := L.sg (Or.inr rfl) C1 G1
  have sa : ∀ (m : Nat) (t : Tr m) (q : Nat), SA sh I m t q → SA (shSg sh (x + 261) g) I1 m t q := fun m t q h => SA.toh L f (fun b hb hh => o b (by omega) (by omega)) h
  have n2 : ∀ a, a ≠ x + 261 + 11 → (shSg sh (x + 261) g).2.2.2 a = sh.2.2.2 a := fun a h => up1_n _ _ h
  have S0 : SR (shSg sh (x + 261) g) I1 (x + 16) (I (x + 678 + 1)) := C.1.q O.1 (fun _ _ _ => rfl) (fun a u v => o a (by omega) (by omega)) ⟨n2 _ (by omega), n2 _ (by omega)⟩ sa
  obtain ⟨V', hV'⟩ : ∃ V', wr (I (x + 678 + 2)) 0 3606 (fun i => I (x + 678 + 1) i) = V' := ⟨_, rfl⟩
  have ve : ∀ j : Int, 0 ≤ j → j < 3606 → V' j = I (x + 678 + 1) j := fun j u v => by rw [← hV', wr_in u (by omega), show (((j - 0).toNat : Nat) : Int) = j by omega]
  have SV : SR (shSg sh (x + 261) g) I1 (x + 261) V' := S1.q O.1 ve (fun _ _ _ => rfl) ⟨rfl, rfl⟩ (fun _ _ _ h => h)
  have z := t_image (sh := shSg sh (x + 261) g) (I := I1) (J := J) L1.1.2.1
  rw [o (x + 678 + 1) (by omega) (by omega), o (x + 678 + 2) (by omega) (by omega), hV'] at z
  have CC : CR (shSg sh (x + 261) g) I1 x (I (x + 678 + 1)) V' (I (x + 678 + 5)) 1 (I (x + 678) 11) (I (x + 678) 17) := by
    refine ⟨S0, ?_, by rw [kx, upz_s], fun _ => SV, ?_, fun j u v => ?_, ?_⟩
    · rw [o _ (by omega) (by omega)]; exact C.2.1
    · rw [o _ (by omega) (by omega)]; exact C.2.2.2.2.1
    · rw [o _ (by omega) (by omega)]; exact C.2.2.2.2.2.1 j u v
    · rw [kx, upz_n _ _ (by decide)]; exact C.2.2.2.2.2.2
  refine ⟨_, I1, J, _, J, e, L1.1.2.1, z, IV.of L1 CC ⟨O.1, Or.inr rfl, fun _ => O.1.q ve, O.2.2.2⟩ V.rm (fun b hb => ?_) ?_ ?_ ?_ ?_ ?_ ?_⟩
  · rw [up1_n _ _ (by omega), up1_n _ _ (by omega), thr_n (by omega)]
  · rw [up1_n _ _ (by omega), up1_n _ _ (by omega), thr_n (by omega), o _ (by omega) (by omega)]
  · rw [up1_n _ _ (by omega), up1_s]
  · rw [up1_n _ _ (by omega), up1_n _ _ (by omega), thr_n (by omega), o _ (by omega) (by omega)]
  · rw [up1_s, upz_s]
  · rw [up1_s, upz_n _ _ (by decide), thr_k (by decide), o _ (by omega) (by omega)]
  · rw [up1_s, upz_n _ _ (by decide), thr_k (by decide), o _ (by omega) (by omega)]
theorem qd_back (V : IV sh I x (c + 1)) : OCD x c (s_X1_back x (sh, I, J)) (fun μ => s_X11_back (x + 678) μ) := by
  obtain ⟨L, C, O, R⟩ := id V
  have L4 := L.2.1.1
  by_cases h : I (x + 678) 3 = 1
  · obtain ⟨g, I1, e, C1, S1, G1, px, o⟩ := x_back (J := J) V.L (C.2.2.2.1 h) (O.2.2.1 h) L.2.2.2.2 (by rw [C.2.2.1]; exact h)
    obtain ⟨L1, f⟩ := L.sg (Or.inl rfl) C1 G1
    have sa : ∀ (m : Nat) (t : Tr m) (q : Nat), SA sh I m t q → SA (shSg sh (x + 16) g) I1 m t q := fun m t q h => SA.toh L f (fun b hb hh => o b (by omega) (by omega)) h
    have n2 : ∀ a, a ≠ x + 16 + 11 → (shSg sh (x + 16) g).2.2.2 a = sh.2.2.2 a := fun a h => up1_n _ _ h
    obtain ⟨W', hW'⟩ : ∃ W', wr (I (x + 678 + 1)) 0 3606 (fun i => I (x + 678 + 2) i) = W' := ⟨_, rfl⟩
    have we : ∀ j : Int, 0 ≤ j → j < 3606 → W' j = I (x + 678 + 2) j := fun j u v => by rw [← hW', wr_in u (by omega), show (((j - 0).toNat : Nat) : Int) = j by omega]
    have WV := O.2.2.1 h
    have S0 : SR (shSg sh (x + 16) g) I1 (x + 16) W' := S1.q WV we (fun _ _ _ => rfl) ⟨rfl, rfl⟩ (fun _ _ _ h => h)
    have z := t_back (sh := shSg sh (x + 16) g) (I := I1) (J := J) L1.1.2.1 (by rw [o _ (by omega) (by omega)]; exact O.2.1)
    rw [o (x + 678 + 1) (by omega) (by omega), o (x + 678 + 2) (by omega) (by omega), o (x + 678) (by omega) (by omega), hW'] at z
    have CC : CR (shSg sh (x + 16) g) I1 x W' (I (x + 678 + 2)) (I (x + 678 + 5)) (I (x + 678) 3) (I (x + 678) 11) (I (x + 678) 17) := by
      refine ⟨S0, by rw [px, we 0 (by omega) (by omega)], ?_, fun hk => (C.2.2.2.1 hk).q (O.2.2.1 hk) (fun _ _ _ => rfl) (fun a u v => o a (by omega) (by omega)) ⟨n2 _ (by omega), n2 _ (by omega)⟩ sa, ?_, fun j u v => ?_, ?_⟩
      · rw [o _ (by omega) (by omega)]; exact C.2.2.1
      · rw [o _ (by omega) (by omega)]; exact C.2.2.2.2.1
      · rw [o _ (by omega) (by omega)]; exact C.2.2.2.2.2.1 j u v
      · rw [o _ (by omega) (by omega)]; exact C.2.2.2.2.2.2
    refine ⟨1, _, I1, J, _, J, e, L1.1.2.1, z.2 h, IV.of L1 CC ⟨WV.q we, O.2⟩ V.rm (fun b hb => ?_) ?_ ?_ ?_ ?_ ?_ ?_⟩
    · rw [up1_n _ _ (by omega), thr_n (by omega)]
    · rw [up1_s]
    · rw [up1_n _ _ (by omega), thr_n (by omega), o _ (by omega) (by omega)]
    · rw [up1_n _ _ (by omega), thr_n (by omega), o _ (by omega) (by omega)]
    · rw [up1_n _ _ (by omega), thr_k (by decide), o _ (by omega) (by omega)]
    · rw [up1_n _ _ (by omega), thr_k (by decide), o _ (by omega) (by omega)]
    · rw [up1_n _ _ (by omega), thr_k (by decide), o _ (by omega) (by omega)]
  · have h0 : I (x + 678) 3 = 0 := by have := O.2.1; omega
    have z := t_back (I := I) (J := J) V.T O.2.1
    exact ⟨_, sh, I, J, _, J, x_back0 V.L (by rw [C.2.2.1]; exact h0), V.T, z.1 h0, (V.same.q V.2.2.1 HK.refl).1⟩
/-- the field -/
theorem qd_field (V : IV sh I x (c + 1)) {q : Int} (hq : i32 q) :
    (∃ (I1 I2 J2 : Nat → Int → Int), s_X1_field x q (sh, I, J) = some (.inr (sh, I1, J)) ∧ s_X11_field (x + 678) q (sh, I1, J) = some (sh, I2, J2) ∧ I2 (x + 678) 0 = 0 ∧ IV sh I2 x c) ∨
    ∃ (k : Nat) (cd : Int) (a : Nat) (sh1 : Sh) (I1 J1 I2 J2 : Nat → Int → Int), s_X1_field x q (sh, I, J) = some (.inl (k, a, (sh1, I1, J1))) ∧ ((k = 0 ∧ cd = 1) ∨ (k = 1 ∧ cd = 2)) ∧ s_X11_field (x + 678) q (sh1, I1, J1) = some (sh1, I2, J2) ∧ I2 (x + 678) 0 = cd ∧ IV sh1 I2 x c := by
  obtain ⟨L, C, O, R⟩ := id V
  have L4 := L.2.1.1
  have y := x_field (J := J) V.L V.R V.S V.Wd hq
  have bad : ∀ (k : Nat) (cd : Int), ((k = 0 ∧ cd = 1) ∨ (k = 1 ∧ cd = 2)) → CB (s_X1_field x q (sh, I, J)) sh I J k → (∀ (sh1 : Sh) (I1 J2 : Nat → Int → Int), TL sh1 (x + 678) → (∀ a, x + 678 ≤ a → a ≤ x + 693 → I1 a = I a) → s_X11_field (x + 678) q (sh1, I1, J2) = some (sh1, thr I1 (x + 678) cd, J2)) → ∃ (k : Nat) (cd : Int) (a : Nat) (sh1 : Sh) (I1 J1 I2 J2 : Nat → Int → Int), s_X1_field x q (sh, I, J) = some (.inl (k, a, (sh1, I1, J1))) ∧ ((k = 0 ∧ cd = 1) ∨ (k = 1 ∧ cd = 2)) ∧ s_X11_field (x + 678) q (sh1, I1, J1) = some (sh1, I2, J2) ∧ I2 (x + 678) 0 = cd ∧ IV sh1 I2 x c := by
    intro k cd hk hx hq
    have o : ∀ b, b < sh.1.1 → exI sh I b = I b := fun b hb => up1_n _ _ (by omega)
    have h := V.hf (I1 := exI sh I) (SF.ex V.1) (by omega) (by omega) (fun b u _ _ _ => o b u) (by rw [o _ (by omega)]) (by rw [o _ (by omega)])
    have g := h.q V.2.2.1 (HK.refl (I := thr (exI sh I) (x + 678) cd))
    exact ⟨k, cd, _, _, _, _, _, _, hx, hk, hq _ _ _ h.1.1.2.1 h.2.2.1, g.2, g.1⟩
  have tw : ∀ (sh1 : Sh) (I1 J2 : Nat → Int → Int), TL sh1 (x + 678) → (∀ a, x + 678 ≤ a → a ≤ x + 693 → I1 a = I a) → _ := fun sh1 I1 J2 T E => t_field (sh := sh1) (I := I1) (J := J2) T (by rw [E _ (by omega) (by omega)]; exact V.Wd) hq
  by_cases hp : Pp q
  · by_cases h0 : I (x + 678 + 1) 1 + I (x + 678 + 1) 2 = 0
    · obtain ⟨I1, e, S', p', o⟩ := y.1 hp h0
      have E : ∀ a, x + 678 ≤ a → a ≤ x + 693 → I1 a = I a := fun a u v => o a (by omega) (by omega)
      have z := tw sh I1 J L.1.2.1 E
      rw [E (x + 678 + 1) (by omega) (by omega)] at z
      obtain ⟨I2, e2, k2⟩ := z.1 hp h0
      have C1 : CR sh I1 x (upz (I (x + 678 + 1)) 0 q) (I (x + 678 + 2)) (I (x + 678 + 5)) (I (x + 678) 3) (I (x + 678) 11) (I (x + 678) 17) := by
        refine C.st L O.2.2.1 (SF.refl L).toh S' (by rw [p', upz_s]) (fun b _ _ _ _ _ _ _ u v => o b (by omega) u) ⟨rfl, rfl⟩ ?_ (fun j u v => ?_) ?_ ?_
        · rw [o _ (by omega) (by omega)]; exact C.2.2.2.2.1
        · rw [o _ (by omega) (by omega)]; exact C.2.2.2.2.2.1 j u v
        · rw [o _ (by omega) (by omega)]; exact C.2.2.2.2.2.2
        · rw [o _ (by omega) (by omega)]
      have tn : ∀ a, a ≠ x + 678 → a ≠ x + 678 + 1 → (a < x + 678 + 3 ∨ x + 678 + 15 < a ∨ a = x + 678 + 5) → I2 a = I1 a := fun a u w v => by rw [k2.1 a u v, up1_n _ _ w, thr_n u]
      have tm : ∀ k : Int, k = 3 ∨ k = 11 ∨ k = 17 → I2 (x + 678) k = I (x + 678) k := fun k hk => by rw [k2.2 k (by omega), up1_n _ _ (by omega), thr_k (by omega), E _ (by omega) (by omega)]
      exact Or.inl ⟨I1, I2, J, e, e2, by rw [k2.2 0 (by omega), up1_n _ _ (by omega), thr_0], IV.of L C1 ⟨V.Wd.field h0 hp, O.2⟩ V.rm (fun b hb => tn b (by omega) (by omega) (by omega)) (by rw [k2.w, up1_s]) (by rw [tn _ (by omega) (by omega) (by omega), E _ (by omega) (by omega)]) (by rw [tn _ (by omega) (by omega) (by omega), E _ (by omega) (by omega)]) (tm 3 (by omega)) (tm 11 (by omega)) (tm 17 (by omega))⟩
    · exact Or.inr (bad 1 2 (Or.inr ⟨rfl, rfl⟩) (y.2.2 hp h0) (fun sh1 I1 J2 T E => (tw sh1 I1 J2 T E).2.2 hp (by rw [E _ (by omega) (by omega)]; exact h0)))
  · exact Or.inr (bad 0 1 (Or.inl ⟨rfl, rfl⟩) (y.2.1 hp) (fun sh1 I1 J2 T E => (tw sh1 I1 J2 T E).2.1 hp))
end CDi
