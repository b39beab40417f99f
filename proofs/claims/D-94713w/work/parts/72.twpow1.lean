/-! the twin: sums of powers; the last number -/
set_option maxRecDepth 100000
/-- the first hit -/
def fnd {β : Type} (g : Nat → Option β) : Nat → Nat → Option β
  | 0, _ => none
  | k + 1, i => match g i with
    | some b => some b
    | none => fnd g k (i + 1)
theorem fnd_n {β : Type} {g : Nat → Option β} {k i : Nat} (h : g i = none) : fnd g (k + 1) i = fnd g k (i + 1) := by
  show (match g i with | some b => some b | none => fnd g k (i + 1)) = _
  rw [h]
theorem fnd_s {β : Type} {g : Nat → Option β} {k i : Nat} {b : β} (h : g i = some b) : fnd g (k + 1) i = some b := by
  show (match g i with | some b => some b | none => fnd g k (i + 1)) = _
  rw [h]
theorem fnd_loop {β ρ : Type} {f : Int × Me → Option ((Int × Me) ⊕ ρ)} (g : Nat → Option β) (N : Nat) (Q : Me → Prop) (R : β → ρ → Prop) (E : ρ → Prop)
    (step : ∀ (i : Nat) (μ : Me), i < N → Q μ → (g i = none → ∃ μ', Q μ' ∧ f ((i : Int), μ) = some (.inl ((i : Int) + 1, μ'))) ∧ ∀ b, g i = some b → ∃ r, f ((i : Int), μ) = some (.inr r) ∧ R b r)
    (stop : ∀ μ, Q μ → ∃ r, f ((N : Int), μ) = some (.inr r) ∧ E r) :
    ∀ (k i : Nat) (μ : Me), i + k = N → Q μ → (fnd g k i = none → ∃ r, whileO f ((i : Int), μ) = some r ∧ E r) ∧ ∀ b, fnd g k i = some b → ∃ r, whileO f ((i : Int), μ) = some r ∧ R b r := by
  intro k
  induction k with
  | zero =>
    intro i μ hi hq
    have : i = N := by omega
    subst this
    obtain ⟨r, h1, h2⟩ := stop μ hq
    refine ⟨fun _ => ⟨r, by rw [whileO_eq, h1]; rfl, h2⟩, fun b hb => ?_⟩
    cases hb
  | succ k ih =>
    intro i μ hi hq
    obtain ⟨h1, h2⟩ := step i μ (by omega) hq
    cases hg : g i with
    | none =>
      obtain ⟨μ', h3, h4⟩ := h1 hg
      rw [fnd_n hg, whileO_eq, h4]
      exact ih (i + 1) μ' (by omega) h3
    | some b =>
      obtain ⟨r, h3, h4⟩ := h2 b hg
      rw [fnd_s hg, whileO_eq, h3]
      refine ⟨fun h => (by cases h), fun b' hb => ⟨r, rfl, ?_⟩⟩
      rw [← Option.some.inj hb]
      exact h4
/-- the power of a point -/
def lnP (p : Int) (n : Nat) (t : Int) : Int → Int := itL n (if t < p then 1 else 0) (if t < p then 0 - t else 1) (cst 1)
def lsP (p : Int) (n : Nat) (c : Int → Int) (t v : Int) : Int → Int := fun k => c k - v * lnP p n t k
/-- the last number, and whether it does -/
def lsV (p : Int) (n : Nat) (c : Int → Int) (t : Int) : Int := (if t < p then c 0 else c n) % p
def lsB (p : Int) (n : Nat) (c : Int → Int) (t : Int) : Int := if lsV p n c t = 0 then 0 else nzI p (fun k => c k - lsV p n c t * lnP p n t k) (n + 1)
theorem lsB_b (p : Int) (n : Nat) (c : Int → Int) (t : Int) : lsB p n c t = 0 ∨ lsB p n c t = 1 := by
  unfold lsB
  split
  · exact Or.inl rfl
  · exact (nzI_iff _ _ _).1
def cN (p : Int) (n : Nat) (c : Int → Int) (sp fa : Int → Int) : Nat → Int → Int
  | 0 => c
  | j + 1 => lsP p n (cN p n c sp fa j) (sp j) (fa j)
/-- nought from i on, so many -/
def afI (p : Int) (e : Int → Int) : Nat → Nat → Int
  | 0, _ => 1
  | k + 1, i => if e i % p = 0 then afI p e k (i + 1) else 0
theorem afI_iff (p : Int) (e : Int → Int) : ∀ k i : Nat, (afI p e k i = 0 ∨ afI p e k i = 1) ∧ (afI p e k i = 1 ↔ ∀ j : Int, i ≤ j → j < i + k → e j % p = 0)
  | 0, i => ⟨Or.inr rfl, ⟨fun _ j a b => by omega, fun _ => rfl⟩⟩
  | k + 1, i => by
    obtain ⟨h1, h2⟩ := afI_iff p e k (i + 1)
    unfold afI
    by_cases h : e i % p = 0
    · rw [if_pos h]
      refine ⟨h1, h2.trans ⟨fun g j a b => ?_, fun g j a b => g j (by omega) (by omega)⟩⟩
      by_cases e9 : j = i
      · rw [e9, h]
      · exact g j (by omega) (by omega)
    · rw [if_neg h]
      exact ⟨Or.inl rfl, ⟨fun e => absurd e (by decide), fun g => absurd (g i (by omega) (by omega)) h⟩⟩
theorem afI_nz (p : Int) (e : Int → Int) (k : Nat) : afI p e k 0 = nzI p e k := by
  obtain ⟨a1, a2⟩ := afI_iff p e k 0
  obtain ⟨b1, b2⟩ := nzI_iff p e k
  have h : afI p e k 0 = 1 ↔ nzI p e k = 1 := a2.trans (Iff.trans ⟨fun g j u v => g j (by omega) (by omega), fun g j u v => g j (by omega) (by omega)⟩ b2.symm)
  rcases a1 with a | a
  · rcases b1 with b | b
    · rw [a, b]
    · rw [h.mpr b] at a
      exact absurd a (by decide)
  · rw [a, h.mp a]
/-- the table of powers -/
def PW (I : Nat → Int → Int) (m : Nat) (p : Int) (n : Nat) : Prop := ∀ t k : Int, 0 ≤ t → t ≤ p → 0 ≤ k → k ≤ n → I (m + 12) (9 * t + k) = lnP p n t k % p
section TPw
variable {sh : Sh} {I J : Nat → Int → Int} {m : Nat} {p : Int}
theorem t_powerAt (T : TL sh m) (hp : Pp p) {n : Nat} (hn : n ≤ 8) (hP : PW I m p n) {t k : Int} (h0 : 0 ≤ t) (h1 : t ≤ p) (h2 : 0 ≤ k) (h3 : k ≤ n) : s_X11_powerAt m t k (sh, I, J) = some (lnP p n t k % p, (sh, I, J)) := by
  have hb := hp.b
  unfold s_X11_powerAt
  simp (disch := omega) only [bsome, t_ck T, t_gI T, t_pI T, t_gJ T, t_pJ T, tR_powered T, tA_powered T, tU_powered T]
  rw [hP t k h0 h1 h2 h3]
theorem t_raises (T : TL sh m) (hI : I (m + 1) 0 = p) (hp : Pp p) {n : Nat} (hn : n ≤ 8) :
    ∃ I', s_X11_raises m n (sh, I, J) = some (sh, I', J) ∧ PW I' m p n ∧ (∀ a : Nat, a ≠ m + 3 → a ≠ m + 4 → a ≠ m + 12 → I' a = I a) ∧ ∀ q : Int, 0 ≤ q → q < 48 → q ≠ 45 → I' (m + 3) q = I (m + 3) q ∧ ∀ k : Int, 0 ≤ k → k < 41 → I' (m + 4) (41 * q + k) = I (m + 4) (41 * q + k) := by
  have hb := hp.b
  unfold s_X11_raises s_X11_raises_l2
  have one : (1 : Int) % p = 1 := Int.emod_eq_of_lt (by omega) (by omega)
  have zero : (0 : Int) % p = 0 := Int.zero_emod p
  refine ex_g (fun I' => ((sh, I', J) : Me)) (whileO_for (p + 1).toNat
    (fun i s => ∃ I', s = ((i : Int), ((sh, I', J) : Me)) ∧ (∀ t k : Int, 0 ≤ t → t < i → 0 ≤ k → k ≤ n → I' (m + 12) (9 * t + k) = lnP p n t k % p) ∧ (∀ a : Nat, a ≠ m + 3 → a ≠ m + 4 → a ≠ m + 12 → I' a = I a) ∧ ∀ q : Int, 0 ≤ q → q < 48 → q ≠ 45 → I' (m + 3) q = I (m + 3) q ∧ ∀ k : Int, 0 ≤ k → k < 41 → I' (m + 4) (41 * q + k) = I (m + 4) (41 * q + k))
    _ ?_ ?_ _ ?_)
  · rintro i s hi ⟨I1, rfl, a1, a2, a3⟩
    have hI1 : I1 (m + 1) 0 = p := by rw [a2 _ (by omega) (by omega) (by omega), hI]
    obtain ⟨I2, e2, r2, f2⟩ := t_clearsR (I := I1) (J := J) (p := p) T (r := 45) (d := 0) (by omega) (by omega) (by omega) (by omega)
    obtain ⟨I3, e3, b1, b2, b3, f3⟩ := t_putR (I := I2) (J := J) T (r := 45) (k := 0) (v := 1) (by omega) (by omega) (by omega) (by omega)
    have f23 := f2.trans f3
    have r3 : RW I3 m p 45 0 (cst 1) := by
      refine ⟨by rw [b2]; exact r2.1, fun k h1 h2 => ?_⟩
      have hk : k = 0 := by omega
      subst hk
      rw [b1]
      show 1 = 1 % p
      rw [one]
    have hI3 := f23.pw hI1
    obtain ⟨u, hu⟩ : ∃ u : Int, (if (i : Int) < p then (1 : Int) else 0) = u := ⟨_, rfl⟩
    obtain ⟨v, hv⟩ : ∃ v : Int, (if (i : Int) < p then 0 - (i : Int) else 1) = v := ⟨_, rfl⟩
    have hw : ∃ I', s_X11_raises_l27 m n i 0 (sh, I3, J) = s_X11_raises_l77 m n i 0 (sh, I', J) ∧ RW I' m p 45 n (itL n u v (cst 1)) ∧ RF m (fun q => q = 45) I3 I' := by
      have key : ∀ (k j : Nat) (I4 : Nat → Int → Int), j + k = n → RW I4 m p 45 j (itL j u v (cst 1)) → RF m (fun q => q = 45) I3 I4 → ∃ I', s_X11_raises_l27 m n i j (sh, I4, J) = s_X11_raises_l77 m n i 0 (sh, I', J) ∧ RW I' m p 45 n (itL n u v (cst 1)) ∧ RF m (fun q => q = 45) I3 I' := by
        intro k
        induction k with
        | zero =>
          intro j I4 hj r4 f4
          have : j = n := by omega
          subst this
          refine ⟨I4, ?_, r4, f4⟩
          rw [e_X11_raises_l27]
          unfold s_X11_raises_l27_st
          simp (disch := omega) only [w32_id, if_pos, ifT]
          cases s_X11_raises_l77 m j i 0 (sh, I4, J) <;> rfl
        | succ k ih =>
          intro j I4 hj r4 f4
          have hI4 := f4.pw hI3
          obtain ⟨I5, e5, r5, f5⟩ := t_widensM (J := J) T hI4 hp (r := 45) (d := j) u v (by omega) (by omega) r4 (by have := (Sup.cst (v := 1)).itL (u := u) (v := v) j; rwa [Int.zero_add] at this)
          obtain ⟨I6, e6, r6, f6⟩ := ih (j + 1) I5 (by omega) r5 (f4.trans f5)
          refine ⟨I6, ?_, r6, f6⟩
          rw [← e6, e_X11_raises_l27]
          unfold s_X11_raises_l27_st
          simp (disch := omega) only [t_ck T, bsome, t_p T, hI4, w32_id (x := (n : Int)), w32_id (x := (j : Int)), w32_id (x := p), w32_id (x := (i : Int)), if_neg, ifT]
          unfold s_X11_raises_b48
          by_cases hip : (i : Int) < p
          · rw [if_pos hip] at hu hv
            subst hu
            subst hv
            have e7 := t_less0 (J := J) T hI4 hp (i : Int)
            rw [emod_id p (show 0 ≤ (i : Int) ∧ (i : Int) < p by omega)] at e7
            rw [one] at e5
            rw [if_neg (show ¬ p ≤ (i : Int) by omega)]
            simp (disch := omega) only [t_ck T, bsome, t_p T, hI4, w32_id (x := p), w32_id (x := (i : Int)), if_neg, e7, e5, ifT]
            rfl
          · rw [if_neg hip] at hu hv
            subst hu
            subst hv
            rw [one, zero] at e5
            rw [if_pos (show p ≤ (i : Int) by omega)]
            simp (disch := omega) only [t_ck T, bsome, t_p T, hI4, w32_id (x := p), w32_id (x := (i : Int)), if_pos, e5, ifT]
            rfl
      exact key n 0 I3 (by omega) r3 RF.refl
    obtain ⟨I4, e4, r4, f4⟩ := hw
    have f24 := f23.trans f4
    have hln : itL n u v (cst 1) = lnP p n i := by
      unfold lnP
      rw [hu, hv]
    rw [hln] at r4
    have hl : s_X11_raises_l77 m n i 0 (sh, I4, J) = some (.inl ((i : Int) + 1, (sh, up1 I4 (m + 12) (wr (I4 (m + 12)) (9 * i) (n + 1) (fun k => lnP p n i k % p)), J))) := by
      unfold s_X11_raises_l77
      refine arr_loop (f := fun s : Int × Me => s_X11_raises_l77_st m n i s.1 s.2) (sh := sh) (I := I4) (J := J) (m + 12) (9 * i) 0 (n + 1) (fun k => lnP p n i k % p) ?_ ?_
      · intro k hk
        have o1 : up1 I4 (m + 12) (wr (I4 (m + 12)) (9 * i) k (fun k => lnP p n i k % p)) (m + 4) (41 * 45 + k) = lnP p n i k % p := by rw [up1_n _ _ (by omega), r4.2 k (by omega) (by omega)]
        unfold s_X11_raises_l77_st
        dsimp only
        rw [Int.zero_add]
        simp (disch := omega) only [bsome, t_ck T, t_gI T, t_pI T, t_gJ T, t_pJ T, tR_powered T, tA_powered T, tU_powered T, w32_id, if_neg, t_of T, o1, up1_s, up1_up1, ifT]
      · unfold s_X11_raises_l77_st
        dsimp only
        simp (disch := omega) only [w32_id, if_pos, ifT]
    refine ⟨((i : Int) + 1, (sh, up1 I4 (m + 12) (wr (I4 (m + 12)) (9 * i) (n + 1) (fun k => lnP p n i k % p)), J)), ?_, up1 I4 (m + 12) (wr (I4 (m + 12)) (9 * i) (n + 1) (fun k => lnP p n i k % p)), rfl, fun t k t0 t1 k0 k1 => ?_, fun a x y z => ?_, fun q x y z => ⟨?_, fun k u v => ?_⟩⟩
    · unfold s_X11_raises_l2_st
      dsimp only
      simp (disch := omega) only [t_ck T, bsome, t_p T, hI1, w32_id, if_neg, e2, e3, e4, hl, ifT]
    · rw [up1_s]
      by_cases e : t = i
      · rw [e, wr_in (by omega) (by omega), show (((9 * (i : Int) + k - 9 * i).toNat : Nat) : Int) = k by omega]
      · rw [wr_out (by omega), f24.1 _ (by omega) (by omega)]
        exact a1 t k t0 (by omega) k0 k1
    · rw [up1_n _ _ z, f24.1 a x y, a2 a x y z]
    · rw [up1_n _ _ (by omega), (f24.2 q x y z).1, (a3 q x y z).1]
    · rw [up1_n _ _ (by omega), (f24.2 q x y z).2 k u v, (a3 q x y z).2 k u v]
  · rintro s ⟨I1, rfl, a1, a2, a3⟩
    have hI1 : I1 (m + 1) 0 = p := by rw [a2 _ (by omega) (by omega) (by omega), hI]
    unfold s_X11_raises_l2_st
    dsimp only
    simp (disch := omega) only [t_ck T, bsome, t_p T, hI1, w32_id, if_pos, ifT]
    exact ⟨_, rfl, I1, rfl, fun t k t0 t1 k0 k1 => a1 t k t0 (by omega) k0 k1, a2, a3⟩
  · exact ⟨I, rfl, fun t k t0 t1 => by omega, fun _ _ _ _ => rfl, fun q _ _ _ => ⟨rfl, fun _ _ _ => rfl⟩⟩
/-- the last point's number is found, and whether it does -/
theorem t_isLast (T : TL sh m) (hI : I (m + 1) 0 = p) (hp : Pp p) {n many : Nat} {c : Int → Int} (hn : n ≤ 8) (hm : many ≤ 2) (hc : RW I m p 40 n c) (hP : PW I m p n) (hsp : ∀ j : Int, 0 ≤ j → j ≤ many → 0 ≤ I (m + 13) j ∧ I (m + 13) j ≤ p) (hfa : ∀ j : Int, 0 ≤ j → j < many → 0 ≤ I (m + 14) j ∧ I (m + 14) j < p) :
    ∃ I', s_X11_isLast m many (sh, I, J) = some (lsB p n (cN p n c (I (m + 13)) (I (m + 14)) many) (I (m + 13) many), (sh, I', J)) ∧
      (∀ a : Nat, a ≠ m + 3 → a ≠ m + 4 → a ≠ m + 14 → I' a = I a) ∧ RW I' m p 40 n c ∧ (∀ j : Int, j ≠ many → I' (m + 14) j = I (m + 14) j) ∧ I' (m + 14) many = lsV p n (cN p n c (I (m + 13)) (I (m + 14)) many) (I (m + 13) many) := by
  have hb := hp.b
  obtain ⟨sp, hs⟩ : ∃ sp, I (m + 13) = sp := ⟨_, rfl⟩
  obtain ⟨fa, hf⟩ : ∃ fa, I (m + 14) = fa := ⟨_, rfl⟩
  rw [hs] at hsp ⊢
  rw [hf] at hfa ⊢
  obtain ⟨I1, e1, r1, f1⟩ := t_copies (J := J) T (r := 40) (to := 42) (by omega) (by omega) (by omega) hc
  have key : ∀ (k j : Nat) (I2 : Nat → Int → Int), j + k = many → RW I2 m p 42 n (cN p n c sp fa j) → RF m (fun q => q = 42) I I2 → ∃ I', s_X11_isLast_l17 m many (sp many) j (sh, I2, J) = s_X11_isLast_b91 m many (sp many) (sh, I', J) ∧ RW I' m p 42 n (cN p n c sp fa many) ∧ RF m (fun q => q = 42) I I' := by
    intro k
    induction k with
    | zero =>
      intro j I2 hj r2 f2
      have : j = many := by omega
      subst this
      refine ⟨I2, ?_, r2, f2⟩
      rw [e_X11_isLast_l17]
      unfold s_X11_isLast_l17_st
      simp (disch := omega) only [w32_id (x := (j : Int)), if_pos, ifT]
      cases s_X11_isLast_b91 m j (sp j) (sh, I2, J) <;> rfl
    | succ k ih =>
      intro j I2 hj r2 f2
      have hI2 := f2.pw hI
      have hs2 : I2 (m + 13) = sp := by rw [f2.1 _ (by omega) (by omega), hs]
      have hf2 : I2 (m + 14) = fa := by rw [f2.1 _ (by omega) (by omega), hf]
      have s1 := hsp j (by omega) (by omega)
      have s2 := hfa j (by omega) (by omega)
      have hl : ∃ I', s_X11_isLast_l25 m many (sp many) j 0 (sh, I2, J) = some (.inl ((j : Int) + 1, (sh, I', J))) ∧ RW I' m p 42 n (cN p n c sp fa (j + 1)) ∧ RF m (fun q => q = 42) I2 I' := by
        unfold s_X11_isLast_l25
        obtain ⟨I', h1, h2, h3⟩ : ∃ I', whileO (fun s : Int × Me => s_X11_isLast_l25_st m many (sp many) j s.1 s.2) (0, (sh, I2, J)) = (fun μ => some (Sum.inl ((j : Int) + 1, μ))) (sh, I', J) ∧ RW I' m p 42 n (cN p n c sp fa (j + 1)) ∧ RF m (fun q => q = 42) I2 I' := by
          refine row_loop (sh := sh) (J := J) (f := fun s : Int × Me => s_X11_isLast_l25_st m many (sp many) j s.1 s.2) (y := cN p n c sp fa (j + 1)) (fun μ => some (Sum.inl ((j : Int) + 1, μ))) (show 0 ≤ (42 : Int) ∧ (42 : Int) < 48 by omega) (show -1 ≤ (n : Int) ∧ (n : Int) ≤ 40 by omega) r2 ?_ ?_
          · intro i I3 hi g1 g2 g3
            have hI3 := g3.pw hI2
            have hP3 : PW I3 m p n := by
              intro t k a1 a2 a3 a4
              rw [g3.1 _ (by omega) (by omega), f2.1 _ (by omega) (by omega)]
              exact hP t k a1 a2 a3 a4
            have hs3 : I3 (m + 13) (j : Int) = sp j := by rw [g3.1 _ (by omega) (by omega), hs2]
            have hf3 : I3 (m + 14) (j : Int) = fa j := by rw [g3.1 _ (by omega) (by omega), hf2]
            have e4 := t_powerAt (J := J) T hp hn hP3 (t := sp j) (k := i) s1.1 s1.2 (by omega) hi
            have e5 := t_timesM (J := J) T hI3 hp (fa j) (lnP p n (sp j) i)
            rw [emod_id p s2] at e5
            unfold s_X11_isLast_l25_st
            dsimp only
            simp (disch := omega) only [bsome, t_ck T, t_gI T, t_pI T, t_gJ T, t_pJ T, tR_deg T, tA_deg T, tU_deg T, tR_spot T, tA_spot T, tU_spot T, tR_factor T, tA_factor T, tU_factor T, g1, w32_id (x := (n : Int)), w32_id (x := (i : Int)), if_neg, t_of T, g2, hs3, hf3, e4, e5, t_lessM T hI3 hp, t_put T, ifT]
            rfl
          · intro I3 g1 g3
            unfold s_X11_isLast_l25_st
            dsimp only
            simp (disch := omega) only [bsome, t_ck T, t_gI T, t_pI T, t_gJ T, t_pJ T, tR_deg T, tA_deg T, tU_deg T, g1, w32_id, if_pos, ifT]
            rfl
        exact ⟨I', h1, h2, h3⟩
      obtain ⟨I3, e3, r3, f3⟩ := hl
      obtain ⟨I4, e4, r4, f4⟩ := ih (j + 1) I3 (by omega) r3 (f2.trans f3)
      refine ⟨I4, ?_, r4, f4⟩
      rw [← e4, e_X11_isLast_l17]
      unfold s_X11_isLast_l17_st
      simp (disch := omega) only [w32_id (x := (j : Int)), w32_id (x := (many : Int)), if_neg, e3, ifT]
      rfl
  obtain ⟨I2, e2, r2, f2⟩ := key many 0 I1 (by omega) r1 f1
  obtain ⟨C, hC⟩ : ∃ C, cN p n c sp fa many = C := ⟨_, rfl⟩
  rw [hC] at r2 ⊢
  obtain ⟨t, ht⟩ : ∃ t, sp many = t := ⟨_, rfl⟩
  have st := hsp many (by omega) (by omega)
  rw [ht] at e2 st ⊢
  have hI2 := f2.pw hI
  obtain ⟨b, hbv⟩ : ∃ b, lsV p n C t = b := ⟨_, rfl⟩
  have bb : 0 ≤ b ∧ b < p := by rw [← hbv]; exact emod_b hp _
  have sp0 : I (m + 13) many = t := by rw [hs, ht]
  -- the state behind the factor
  obtain ⟨I3, hI3⟩ : ∃ I3, up1 I2 (m + 14) (upz (I2 (m + 14)) many b) = I3 := ⟨_, rfl⟩
  have h3a : ∀ a : Nat, a ≠ m + 14 → I3 a = I2 a := fun a h => by rw [← hI3, up1_n _ _ h]
  have hP3 : PW I3 m p n := by
    intro t k a1 a2 a3 a4
    rw [h3a _ (by omega), f2.1 _ (by omega) (by omega)]
    exact hP t k a1 a2 a3 a4
  have hp3 : I3 (m + 1) 0 = p := by rw [h3a _ (by omega), hI2]
  have r3 : RW I3 m p 42 n C := r2.ext (h3a _ (by omega)) (h3a _ (by omega))
  have post : (∀ a : Nat, a ≠ m + 3 → a ≠ m + 4 → a ≠ m + 14 → I3 a = I a) ∧ RW I3 m p 40 n c ∧ (∀ j : Int, j ≠ many → I3 (m + 14) j = fa j) ∧ I3 (m + 14) many = b := by
    refine ⟨fun a x y z => by rw [h3a a z, f2.1 a x y], (hc.keep f2 (by omega) (by omega) (by omega) (by omega)).ext (h3a _ (by omega)) (h3a _ (by omega)), fun j hj => ?_, ?_⟩
    · rw [← hI3, up1_s, upz_n _ _ hj, f2.1 _ (by omega) (by omega), hf]
    · rw [← hI3, up1_s, upz_s]
  refine ⟨I3, ?_, post.1, post.2.1, post.2.2.1, by rw [hbv]; exact post.2.2.2⟩
  have loop : ∀ (k i : Nat) (v : Int), i + k = n + 1 → (v = 0 ∨ v = 1) → s_X11_isLast_l144 m t b v i (sh, I3, J) = some (if v = 0 then 0 else afI p (fun k => C k - b * lnP p n t k) k i, (sh, I3, J)) := by
    intro k
    induction k with
    | zero =>
      intro i v hi hv
      rw [e_X11_isLast_l144]
      unfold s_X11_isLast_l144_st
      simp (disch := omega) only [bsome, t_ck T, t_gI T, t_pI T, t_gJ T, t_pJ T, tR_deg T, tA_deg T, tU_deg T, r3.1, w32_id (x := (n : Int)), w32_id (x := (i : Int)), if_pos, bz2_m hv, ifT]
      rcases hv with rfl | rfl
      · rfl
      · rfl
    | succ k ih =>
      intro i v hi hv
      rw [e_X11_isLast_l144]
      unfold s_X11_isLast_l144_st
      rcases hv with rfl | rfl
      · simp (disch := omega) only [bsome, t_ck T, t_gI T, t_pI T, t_gJ T, t_pJ T, tR_deg T, tA_deg T, tU_deg T, r3.1, w32_id (x := (n : Int)), w32_id (x := (i : Int)), w32_id (x := 0), if_pos, if_neg, bz2_m (Or.inl rfl), ifT]
        all_goals rfl
      · have e4 := t_powerAt (J := J) T hp hn hP3 (t := t) (k := i) st.1 st.2 (by omega) (by omega)
        have e5 := t_timesM (J := J) T hp3 hp b (lnP p n t i)
        rw [emod_id p bb] at e5
        have o1 := r3.2 i (by omega) (by omega)
        have c1 := emod_b hp (C i)
        have c2 := emod_b hp (b * lnP p n t i)
        simp (disch := omega) only [bsome, t_ck T, t_gI T, t_pI T, t_gJ T, t_pJ T, tR_deg T, tA_deg T, tU_deg T, r3.1, w32_id (x := (n : Int)), w32_id (x := (i : Int)), w32_id (x := 1), if_neg, t_of T, o1, e4, e5, ifT]
        rw [w32_id (by omega) (by omega), w32_id (by omega) (by omega)]
        have hone : ¬ (1 : Int) = 0 := by decide
        show _ = some (if (1 : Int) = 0 then 0 else if (C i - b * lnP p n t i) % p = 0 then afI p (fun k => C k - b * lnP p n t k) k (i + 1) else 0, _)
        rw [if_neg hone]
        by_cases h9 : C i % p = b * lnP p n t i % p
        · rw [if_pos h9, if_pos (sub_mod0.mpr h9)]
          have h8 := ih (i + 1) 1 (by omega) (Or.inr rfl)
          rw [if_neg hone] at h8
          exact h8
        · rw [if_neg h9, if_neg (fun g => h9 (sub_mod0.mp g))]
          have h8 := ih (i + 1) 0 (by omega) (Or.inl rfl)
          rw [if_pos rfl] at h8
          exact h8
  have last : s_X11_isLast_b122 m many t b (sh, I2, J) = some (lsB p n C t, (sh, I3, J)) := by
    unfold s_X11_isLast_b122
    simp (disch := omega) only [bsome, t_ck T, t_gI T, t_pI T, t_gJ T, t_pJ T, tR_factor T, tA_factor T, tU_factor T, hI3]
    rw [w32_id (by omega) (by omega)]
    unfold lsB
    rw [hbv]
    by_cases h9 : b = 0
    · rw [if_pos h9, if_pos h9]
      have := loop (n + 1) 0 0 (by omega) (Or.inl rfl)
      rw [if_pos rfl] at this
      exact this
    · rw [if_neg h9, if_neg h9]
      have := loop (n + 1) 0 1 (by omega) (Or.inr rfl)
      rw [if_neg (by decide)] at this
      rw [afI_nz] at this
      exact this
  unfold s_X11_isLast
  simp (disch := omega) only [bsome, t_ck T, t_gI T, t_pI T, t_gJ T, t_pJ T, tR_spot T, tA_spot T, tU_spot T, sp0, e1]
  have e2' : s_X11_isLast_l17 m many t 0 (sh, I1, J) = s_X11_isLast_b91 m many t (sh, I2, J) := e2
  rw [e2']
  have o0 := r2.2 0 (by omega) (by omega)
  have on := r2.2 n (by omega) (by omega)
  unfold s_X11_isLast_b91
  simp (disch := omega) only [t_ck T, bsome, t_p T, hI2, w32_id (x := p), w32_id (x := t)]
  unfold lsV at hbv
  by_cases htp : t < p
  · rw [if_pos htp] at hbv
    rw [if_neg (by omega)]
    simp (disch := omega) only [t_of T, bsome, o0]
    rw [hbv]
    exact last
  · rw [if_neg htp] at hbv
    rw [if_pos (by omega)]
    simp (disch := omega) only [bsome, t_ck T, t_gI T, t_pI T, t_gJ T, t_pJ T, tR_deg T, tA_deg T, tU_deg T, r2.1, t_of T, on]
    rw [hbv]
    exact last
end TPw
