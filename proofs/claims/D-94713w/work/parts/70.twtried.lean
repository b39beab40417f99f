/-! the twin: all tables -/
set_option maxRecDepth 100000
/-- a search through so many, that may end early: what is counted, or what is found -/
def lpS (body : Nat → Int → Int ⊕ Int) : Nat → Nat → Int → Int ⊕ Int
  | 0, _, n => .inl n
  | k + 1, i, n => (body i n).elim (fun n' => lpS body k (i + 1) n') .inr
theorem lp_loop {ρ : Type} {f : Int × Int × Me → Option ((Int × Int × Me) ⊕ ρ)} (body : Nat → Int → Int ⊕ Int) (N : Nat) (Q : Me → Prop) (ex fi : Int → Me → ρ)
    (step : ∀ (i : Nat) (n : Int) (μ : Me), i < N → Q μ → ∃ μ', Q μ' ∧ f (n, (i : Int), μ) = some ((body i n).elim (fun n' => .inl (n', (i : Int) + 1, μ')) (fun e => .inr (ex e μ'))))
    (stop : ∀ (n : Int) (μ : Me), Q μ → ∃ μ', Q μ' ∧ f (n, (N : Int), μ) = some (.inr (fi n μ'))) :
    ∀ (k i : Nat) (n : Int) (μ : Me), i + k = N → Q μ → ∃ μ', Q μ' ∧ whileO f (n, (i : Int), μ) = some ((lpS body k i n).elim (fun n' => fi n' μ') (fun e => ex e μ')) := by
  intro k
  induction k with
  | zero =>
    intro i n μ hi hq
    have : i = N := by omega
    subst this
    obtain ⟨μ', h1, h2⟩ := stop n μ hq
    exact ⟨μ', h1, by rw [whileO_eq, h2]; rfl⟩
  | succ k ih =>
    intro i n μ hi hq
    obtain ⟨μ', h1, h2⟩ := step i n μ (by omega) hq
    rw [whileO_eq, h2]
    unfold lpS
    cases body i n with
    | inl n' =>
      obtain ⟨μ2, h3, h4⟩ := ih (i + 1) n' μ' (by omega) h1
      exact ⟨μ2, h3, h4⟩
    | inr e => exact ⟨μ', h1, rfl⟩
/-- does the table make the second form of the first -/
def gdT (p : Int) (F G : Fo) (a b c d : Int) : Int := if dtP a b c d % p = 0 then 0 else lkI p G.1 G.2 F.1 (mixP F.1 a b c d F.2)
def trD (p : Int) (F G : Fo) (x : Int) (a b c : Nat) (d : Nat) (n : Int) : Int ⊕ Int :=
  if gdT p F G a b c d = 1 then (if x = 0 then .inl (n + 1) else .inr (((20 * (a : Int) + b) * 20 + c) * 20 + d)) else .inl n
def trC (p : Int) (F G : Fo) (x : Int) (a b : Nat) (c : Nat) (n : Int) : Int ⊕ Int := lpS (trD p F G x a b c) p.toNat 0 n
def trB (p : Int) (F G : Fo) (x : Int) (a : Nat) (b : Nat) (n : Int) : Int ⊕ Int := lpS (trC p F G x a b) p.toNat 0 n
def trA (p : Int) (F G : Fo) (x : Int) (a : Nat) (n : Int) : Int ⊕ Int := lpS (trB p F G x a) p.toNat 0 n
def triP (p : Int) (F G : Fo) (x : Int) : Int := (lpS (trA p F G x) p.toNat 0 0).elim (fun n => if x = 0 then n else -1) id
theorem itL_low (u v : Int) (f : Int → Int) (h : ∀ k, k < 0 → f k = 0) : ∀ n : Nat, (∀ k, k < 0 → itL n u v f k = 0) ∧ itL n u v f 0 = u ^ n * f 0
  | 0 => ⟨h, by rw [Int.pow_zero, Int.one_mul]; rfl⟩
  | n + 1 => by
    obtain ⟨h1, h2⟩ := itL_low u v f h n
    refine ⟨fun k hk => ?_, ?_⟩
    · show mulL u v (itL n u v f) k = 0
      unfold mulL
      rw [h1 k hk, h1 (k - 1) (by omega)]
      omega
    · show mulL u v (itL n u v f) 0 = _
      unfold mulL
      rw [h2, h1 (0 - 1) (by omega), Int.mul_zero, Int.add_zero, Int.pow_succ, ← Int.mul_assoc, Int.mul_comm u]
theorem itL_top (u v : Int) (f : Int → Int) (d : Int) (h : ∀ k, d < k → f k = 0) : ∀ n : Nat, (∀ k, d + n < k → itL n u v f k = 0) ∧ itL n u v f (d + n) = v ^ n * f d
  | 0 => ⟨fun k hk => h k (by omega), by rw [Int.pow_zero, Int.one_mul]; show f (d + 0) = f d; rw [Int.add_zero]⟩
  | n + 1 => by
    obtain ⟨h1, h2⟩ := itL_top u v f d h n
    refine ⟨fun k hk => ?_, ?_⟩
    · show mulL u v (itL n u v f) k = 0
      unfold mulL
      rw [h1 k (by omega), h1 (k - 1) (by omega)]
      omega
    · show mulL u v (itL n u v f) (d + ((n + 1 : Nat) : Int)) = _
      unfold mulL
      rw [h1 _ (by omega), show d + ((n + 1 : Nat) : Int) - 1 = d + n by omega, h2, Int.mul_zero, Int.zero_add, Int.pow_succ, ← Int.mul_assoc, Int.mul_comm v]
/-- the first number of what is mixed, the last one: what the form is at points -/
theorem mixP_first (n : Nat) (a b c d : Int) (x : Int → Int) : mixP n a b c d x 0 = evP n x a c := by
  unfold mixP evP
  rw [show ((n : Int) + 1).toNat = n + 1 by omega, Int.toNat_natCast]
  refine sm_congr (fun k hk => ?_)
  have h1 := itL_low a b (cst (x k)) (fun j hj => if_neg (by omega)) (n - k)
  rw [(itL_low c d _ h1.1 k).2, h1.2]
  show c ^ k * (a ^ (n - k) * x k) = _
  grind
theorem mixP_last (n : Nat) (a b c d : Int) (x : Int → Int) : mixP n a b c d x n = evP n x b d := by
  unfold mixP evP
  rw [show ((n : Int) + 1).toNat = n + 1 by omega, Int.toNat_natCast]
  refine sm_congr (fun k hk => ?_)
  have h1 := itL_top a b (cst (x k)) 0 (fun j hj => if_neg (by omega)) (n - k)
  rw [Int.zero_add] at h1
  have h2 := itL_top c d _ (((n - k : Nat) : Nat) : Int) h1.1 k
  rw [show ((n - k : Nat) : Int) + (k : Int) = n by omega] at h2
  rw [h2.2, h1.2]
  show d ^ k * (b ^ (n - k) * x k) = _
  grind
theorem gdT_b (p : Int) (F G : Fo) (a b c d : Int) : gdT p F G a b c d = 0 ∨ gdT p F G a b c d = 1 := by
  unfold gdT
  split
  · exact Or.inl rfl
  · exact (lkI_iff (by omega)).1
theorem gdT_1 {p : Int} {F G : Fo} {a b c d : Int} (h : gdT p F G a b c d = 1) : dtP a b c d % p ≠ 0 ∧ F.1 = G.1 ∧ ∀ k : Int, 0 ≤ k → k ≤ F.1 → mixP F.1 a b c d F.2 k % p = G.2 k % p := by
  unfold gdT at h
  by_cases h1 : dtP a b c d % p = 0
  · rw [if_pos h1] at h
    exact absurd h (by decide)
  · rw [if_neg h1] at h
    obtain ⟨h2, h3⟩ := (lkI_iff (by omega)).2.mp h
    exact ⟨h1, by omega, fun k a b => (h3 k a (by omega)).symm⟩
theorem gdT_of {p : Int} {F G : Fo} {a b c d : Int} (h1 : dtP a b c d % p ≠ 0) (h2 : F.1 = G.1) (h3 : ∀ k : Int, 0 ≤ k → k ≤ F.1 → mixP F.1 a b c d F.2 k % p = G.2 k % p) : gdT p F G a b c d = 1 := by
  unfold gdT
  rw [if_neg h1]
  exact (lkI_iff (by omega)).2.mpr ⟨by omega, fun k a b => (h3 k a (by omega)).symm⟩
/-- filtered: no table of a row of tables -/
theorem trC_no {p : Int} {F G : Fo} {x : Int} {a b c : Nat} (h : evP F.1 F.2 a c % p ≠ G.2 0 % p) (n : Int) : trC p F G x a b c n = .inl n := by
  unfold trC
  have : ∀ k i : Nat, lpS (trD p F G x a b c) k i n = .inl n := by
    intro k
    induction k with
    | zero => intro i; rfl
    | succ k ih =>
      intro i
      have h9 : trD p F G x a b c i n = .inl n := by
        unfold trD
        rw [if_neg]
        intro h1
        obtain ⟨-, h2, h3⟩ := gdT_1 h1
        have := h3 0 (by omega) (by omega)
        rw [mixP_first] at this
        exact h this
      show (trD p F G x a b c i n).elim _ _ = _
      rw [h9]
      exact ih (i + 1)
  exact this _ _
theorem trD_no {p : Int} {F G : Fo} {x : Int} {a b c d : Nat} (h : evP F.1 F.2 b d % p ≠ G.2 G.1 % p) (n : Int) : trD p F G x a b c d n = .inl n := by
  unfold trD
  rw [if_neg]
  intro h1
  obtain ⟨-, h2, h3⟩ := gdT_1 h1
  have := h3 F.1 (by omega) (by omega)
  rw [mixP_last, h2] at this
  rw [h2] at h
  exact h this
section TTr
variable {sh : Sh} {I J : Nat → Int → Int} {m : Nat} {p : Int}
/-- what a form is at each x and y -/
def VT (I : Nat → Int → Int) (m : Nat) (p : Int) (F : Fo) : Prop := ∀ x y : Int, 0 ≤ x → x < p → 0 ≤ y → y < p → I (m + 11) (19 * x + y) = evP F.1 F.2 x y % p
theorem t_values (T : TL sh m) (hI : I (m + 1) 0 = p) (hp : Pp p) {r : Int} {F : Fo} (hr : 0 ≤ r ∧ r < 48) (hF : F.1 ≤ 40) (hc : RW I m p r F.1 F.2) : ∃ I', s_X11_values m r (sh, I, J) = some (sh, I', J) ∧ VT I' m p F ∧ ∀ a : Nat, a ≠ m + 11 → I' a = I a := by
  have hb := hp.b
  unfold s_X11_values s_X11_values_l2
  refine ex_g (fun I' => ((sh, I', J) : Me)) (whileO_for p.toNat
    (fun i s => ∃ I', s = ((i : Int), ((sh, I', J) : Me)) ∧ (∀ x y : Int, 0 ≤ x → x < i → 0 ≤ y → y < p → I' (m + 11) (19 * x + y) = evP F.1 F.2 x y % p) ∧ ∀ a : Nat, a ≠ m + 11 → I' a = I a)
    _ ?_ ?_ _ ?_)
  · rintro i s hi ⟨I1, rfl, a1, a2⟩
    have hI1 : I1 (m + 1) 0 = p := by rw [a2 _ (by omega), hI]
    have hin : ∃ I', s_X11_values_l12 m r i 0 (sh, I1, J) = some (.inl ((i : Int) + 1, (sh, I', J))) ∧ (∀ x y : Int, 0 ≤ x → x < i + 1 → 0 ≤ y → y < p → I' (m + 11) (19 * x + y) = evP F.1 F.2 x y % p) ∧ ∀ a : Nat, a ≠ m + 11 → I' a = I a := by
      unfold s_X11_values_l12
      refine ex_g (fun I' => Sum.inl ((i : Int) + 1, ((sh, I', J) : Me))) (whileO_for p.toNat
        (fun j s => ∃ I', s = ((j : Int), ((sh, I', J) : Me)) ∧ (∀ x y : Int, 0 ≤ x → 0 ≤ y → y < p → (x < i ∨ x = i ∧ y < j) → I' (m + 11) (19 * x + y) = evP F.1 F.2 x y % p) ∧ ∀ a : Nat, a ≠ m + 11 → I' a = I a)
        _ ?_ ?_ _ ?_)
      · rintro j s hj ⟨I2, rfl, b1, b2⟩
        have hI2 : I2 (m + 1) 0 = p := by rw [b2 _ (by omega), hI]
        have r2 := hc.ext (b2 (m + 3) (by omega)) (b2 (m + 4) (by omega))
        have e1 := t_valueAt (J := J) T hI2 hp i j hr (by omega) r2
        rw [emod_id p (show 0 ≤ (i : Int) ∧ (i : Int) < p by omega), emod_id p (show 0 ≤ (j : Int) ∧ (j : Int) < p by omega)] at e1
        refine ⟨((j : Int) + 1, (sh, up1 I2 (m + 11) (upz (I2 (m + 11)) (19 * i + j) (evP F.1 F.2 i j % p)), J)), ?_, _, rfl, fun x y x0 y0 y1 hxy => ?_, fun a ha => ?_⟩
        · unfold s_X11_values_l12_st
          dsimp only
          simp (disch := omega) only [bsome, t_ck T, t_gI T, t_pI T, t_gJ T, t_pJ T, tR_valued T, tA_valued T, tU_valued T, t_p T, hI2, w32_id, if_neg, e1, ifT]
        · rw [up1_s]
          by_cases e : x = i ∧ y = j
          · rw [e.1, e.2, upz_s]
          · rw [upz_n _ _ (by omega)]
            exact b1 x y x0 y0 y1 (by omega)
        · rw [up1_n _ _ ha, b2 a ha]
      · rintro s ⟨I2, rfl, b1, b2⟩
        have hI2 : I2 (m + 1) 0 = p := by rw [b2 _ (by omega), hI]
        unfold s_X11_values_l12_st
        dsimp only
        simp (disch := omega) only [t_ck T, bsome, t_p T, hI2, w32_id, if_pos, ifT]
        exact ⟨_, rfl, I2, rfl, fun x y x0 x1 y0 y1 => b1 x y x0 y0 y1 (by omega), b2⟩
      · exact ⟨I1, rfl, fun x y x0 y0 y1 hxy => a1 x y x0 (by omega) y0 y1, a2⟩
    obtain ⟨I2, e2, b1, b2⟩ := hin
    refine ⟨((i : Int) + 1, (sh, I2, J)), ?_, I2, by simp, b1, b2⟩
    unfold s_X11_values_l2_st
    dsimp only
    simp (disch := omega) only [t_ck T, bsome, t_p T, hI1, w32_id, if_neg, e2, ifT]
  · rintro s ⟨I1, rfl, a1, a2⟩
    have hI1 : I1 (m + 1) 0 = p := by rw [a2 _ (by omega), hI]
    unfold s_X11_values_l2_st
    dsimp only
    simp (disch := omega) only [t_ck T, bsome, t_p T, hI1, w32_id, if_pos, ifT]
    exact ⟨_, rfl, I1, rfl, fun x y x0 x1 y0 y1 => a1 x y x0 (by omega) y0 y1, a2⟩
  · exact ⟨I, rfl, fun x y x0 x1 => by omega, fun _ _ => rfl⟩
/-- what holds all through the search -/
def TQ (sh : Sh) (I J : Nat → Int → Int) (m : Nat) (p : Int) (F G : Fo) (μ : Me) : Prop := ∃ I' : Nat → Int → Int, μ = (sh, I', J) ∧ HK m I I' ∧ RW I' m p 40 F.1 F.2 ∧ RW I' m p 41 G.1 G.2 ∧ VT I' m p F
theorem t_tried (T : TL sh m) (hI : I (m + 1) 0 = p) (hp : Pp p) {F G : Fo} {x : Int} (hx : x = 0 ∨ x = 1) (hF : F.1 ≤ 40) (hG : G.1 ≤ 40) (hc : RW I m p 40 F.1 F.2) (hg : RW I m p 41 G.1 G.2) :
    ∃ I', s_X11_tried m x (sh, I, J) = some (triP p F G x, (sh, I', J)) ∧ HK m I I' := by
  have hb := hp.b
  obtain ⟨I1, e1, v1, f1⟩ := t_values (J := J) T hI hp (r := 40) (by omega) hF hc
  have h1 := hg.ext (f1 (m + 3) (by omega)) (f1 (m + 4) (by omega))
  have low := h1.2 0 (by omega) (by omega)
  have high := h1.2 G.1 (by omega) (by omega)
  have k1 : HK m I I1 := ⟨fun a a1 a2 => f1 a (by omega), fun k _ => by rw [f1 m (by omega)]⟩
  have q1 : TQ sh I J m p F G (sh, I1, J) := ⟨I1, rfl, k1, hc.ext (f1 (m + 3) (by omega)) (f1 (m + 4) (by omega)), h1, v1⟩
  have bl := emod_b hp (G.2 0)
  have bh := emod_b hp (G.2 G.1)
  unfold s_X11_tried
  simp (disch := omega) only [bsome, t_ck T, t_gI T, t_pI T, t_gJ T, t_pJ T, tR_deg T, tA_deg T, tU_deg T, e1, t_of T, low, h1.1, high]
  obtain ⟨lo, hlo⟩ : ∃ lo, G.2 0 % p = lo := ⟨_, rfl⟩
  obtain ⟨hi, hhi⟩ : ∃ hi, G.2 G.1 % p = hi := ⟨_, rfl⟩
  rw [hlo] at bl
  rw [hhi] at bh
  rw [hlo, hhi]
  -- the innermost loop
  have lD : ∀ (a b c : Nat) (n : Int) (μ : Me), (a : Int) < p → (b : Int) < p → (c : Int) < p → TQ sh I J m p F G μ → ∃ μ', TQ sh I J m p F G μ' ∧ s_X11_tried_l90 m x n lo hi a b c 0 μ = some ((trC p F G x a b c n).elim (fun n' => .inl (n', (c : Int) + 1, μ')) (fun e => .inr (.inr (.inr (e, μ'))))) := by
    intro a b c n μ ha hb2 hc2 hq
    unfold s_X11_tried_l90
    refine lp_loop (f := fun s : Int × Int × Me => s_X11_tried_l90_st m x s.1 lo hi a b c s.2.1 s.2.2) (trD p F G x a b c) p.toNat (TQ sh I J m p F G) (fun e μ' => .inr (.inr (.inr (e, μ')))) (fun n' μ' => .inl (n', (c : Int) + 1, μ')) ?_ ?_ p.toNat 0 n μ (by omega) hq
    · rintro d n μ hd ⟨I2, rfl, k2, r2, g2, v2⟩
      have hI2 : I2 (m + 1) 0 = p := by rw [k2.w, hI]
      have hv := v2 b d (by omega) hb2 (by omega) (by omega)
      have hvb := emod_b hp (evP F.1 F.2 b d)
      unfold s_X11_tried_l90_st
      dsimp only
      simp (disch := omega) only [bsome, t_ck T, t_gI T, t_pI T, t_gJ T, t_pJ T, tR_valued T, tA_valued T, tU_valued T, t_p T, hI2, w32_id (x := p), w32_id (x := (d : Int)), if_neg, hv, ifT]
      rw [w32_id (x := evP F.1 F.2 b d % p) (by omega) (by omega), w32_id (x := hi) (by omega) (by omega)]
      by_cases h9 : evP F.1 F.2 b d % p = hi
      · rw [if_pos h9]
        have hT : TB (tkT I2 m a b c d) m p a b c d := by
          obtain ⟨z1, z2, z3, z4⟩ := tkT_6 (I := I2) (m := m) (a := a) (b := b) (c := c) (d := d)
          exact ⟨by rw [z1, emod_id p ⟨by omega, by omega⟩], by rw [z2, emod_id p ⟨by omega, by omega⟩], by rw [z3, emod_id p ⟨by omega, by omega⟩], by rw [z4, emod_id p ⟨by omega, by omega⟩]⟩
        obtain ⟨I3, hI3⟩ : ∃ I3, tkT I2 m a b c d = I3 := ⟨_, rfl⟩
        have k3 : HK m I2 I3 := by rw [← hI3]; exact tkT_hk
        have r3 : RW I3 m p 40 F.1 F.2 := by rw [← hI3]; exact r2.tk
        have g3 : RW I3 m p 41 G.1 G.2 := by rw [← hI3]; exact g2.tk
        have v3 : VT I3 m p F := by
          rw [← hI3]
          intro x y a1 a2 a3 a4
          rw [tkT_n (by omega)]
          exact v2 x y a1 a2 a3 a4
        have e3 := t_takesTable (I := I2) (J := J) T a b c d
        rw [hI3] at hT e3
        have hp3 : I3 (m + 1) 0 = p := by rw [k3.w, hI2]
        have e4 := t_detNow (J := J) T hp3 hp hT
        have db := emod_b hp (dtP (a : Int) b c d)
        simp (disch := omega) only [t_ck T, bsome, e3, e4]
        rw [w32_id (x := dtP (a : Int) b c d % p) (by omega) (by omega)]
        by_cases h8 : dtP (a : Int) b c d % p = 0
        · rw [if_pos h8]
          have ht : trD p F G x a b c d n = .inl n := by
            unfold trD gdT
            rw [if_pos h8, if_neg (by decide)]
          rw [ht]
          exact ⟨_, ⟨I3, rfl, k2.trans k3, r3, g3, v3⟩, rfl⟩
        · rw [if_neg h8]
          obtain ⟨I4, e5, r5, f5⟩ := t_mixes (J := J) (f := 40) (to := 42) T hp3 hp (by omega) (by omega) hF hT r3
          have r5' := r3.keep f5 (by omega) (by omega) (by omega) (by omega)
          have g5' := g3.keep f5 (by omega) (by omega) (by omega) (by omega)
          have v5' : VT I4 m p F := by
            intro x y a1 a2 a3 a4
            rw [f5.1 _ (by omega) (by omega)]
            exact v3 x y a1 a2 a3 a4
          have e6 := t_isL (J := J) T hp (r := 41) (q := 42) (by omega) (by omega) (by omega) (by omega) g5' r5
          have hgd : gdT p F G a b c d = lkI p G.1 G.2 F.1 (mixP F.1 a b c d F.2) := if_neg h8
          have q4 : TQ sh I J m p F G (sh, I4, J) := ⟨I4, rfl, (k2.trans k3).trans f5.hk, r5', g5', v5'⟩
          simp (disch := omega) only [t_ck T, bsome, e5, e6]
          rw [← hgd]
          rcases gdT_b p F G a b c d with h7 | h7
          · have ht : trD p F G x a b c d n = .inl n := by
              unfold trD
              rw [h7, if_neg (by decide)]
            rw [h7, ht, if_pos (show w32 0 = 0 from rfl)]
            exact ⟨_, q4, rfl⟩
          · rw [h7, if_neg (show ¬ w32 1 = 0 by decide)]
            unfold trD
            rw [h7, if_pos rfl]
            rcases hx with rfl | rfl
            · rw [if_pos (show w32 0 = 0 from rfl), if_pos rfl]
              exact ⟨_, q4, rfl⟩
            · rw [if_neg (show ¬ w32 1 = 0 by decide), if_neg (show ¬ (1 : Int) = 0 by decide)]
              refine ⟨_, q4, ?_⟩
              unfold s_X11_tried_b168
              rfl
      · rw [if_neg h9, trD_no (by rw [hhi]; exact h9)]
        exact ⟨_, ⟨I2, rfl, k2, r2, g2, v2⟩, rfl⟩
    · rintro n μ ⟨I2, rfl, k2, r2, g2, v2⟩
      have hI2 : I2 (m + 1) 0 = p := by rw [k2.w, hI]
      unfold s_X11_tried_l90_st
      dsimp only
      simp (disch := omega) only [t_ck T, bsome, t_p T, hI2, w32_id (x := p), w32_id (x := ((p.toNat : Nat) : Int)), if_pos, ifT]
      exact ⟨_, ⟨I2, rfl, k2, r2, g2, v2⟩, rfl⟩
  have lC : ∀ (a b : Nat) (n : Int) (μ : Me), (a : Int) < p → (b : Int) < p → TQ sh I J m p F G μ → ∃ μ', TQ sh I J m p F G μ' ∧ s_X11_tried_l58 m x n lo hi a b 0 μ = some ((trB p F G x a b n).elim (fun n' => .inl (n', (b : Int) + 1, μ')) (fun e => .inr (.inr (e, μ')))) := by
    intro a b n μ ha hb2 hq
    unfold s_X11_tried_l58
    refine lp_loop (f := fun s : Int × Int × Me => s_X11_tried_l58_st m x s.1 lo hi a b s.2.1 s.2.2) (trC p F G x a b) p.toNat (TQ sh I J m p F G) (fun e μ' => .inr (.inr (e, μ'))) (fun n' μ' => .inl (n', (b : Int) + 1, μ')) ?_ ?_ p.toNat 0 n μ (by omega) hq
    · rintro c n μ hc2 ⟨I2, rfl, k2, r2, g2, v2⟩
      have hI2 : I2 (m + 1) 0 = p := by rw [k2.w, hI]
      have hv := v2 a c (by omega) ha (by omega) (by omega)
      have hvb := emod_b hp (evP F.1 F.2 a c)
      unfold s_X11_tried_l58_st
      dsimp only
      simp (disch := omega) only [bsome, t_ck T, t_gI T, t_pI T, t_gJ T, t_pJ T, tR_valued T, tA_valued T, tU_valued T, t_p T, hI2, w32_id (x := p), w32_id (x := (c : Int)), if_neg, hv, ifT]
      rw [w32_id (x := evP F.1 F.2 a c % p) (by omega) (by omega), w32_id (x := lo) (by omega) (by omega)]
      by_cases h9 : evP F.1 F.2 a c % p = lo
      · rw [if_pos h9]
        obtain ⟨μ', q', e'⟩ := lD a b c n _ ha hb2 (by omega) ⟨I2, rfl, k2, r2, g2, v2⟩
        refine ⟨μ', q', ?_⟩
        rw [e']
      · rw [if_neg h9, trC_no (by rw [hlo]; exact h9)]
        exact ⟨_, ⟨I2, rfl, k2, r2, g2, v2⟩, rfl⟩
    · rintro n μ ⟨I2, rfl, k2, r2, g2, v2⟩
      have hI2 : I2 (m + 1) 0 = p := by rw [k2.w, hI]
      unfold s_X11_tried_l58_st
      dsimp only
      simp (disch := omega) only [t_ck T, bsome, t_p T, hI2, w32_id (x := p), w32_id (x := ((p.toNat : Nat) : Int)), if_pos, ifT]
      exact ⟨_, ⟨I2, rfl, k2, r2, g2, v2⟩, rfl⟩
  have lB : ∀ (a : Nat) (n : Int) (μ : Me), (a : Int) < p → TQ sh I J m p F G μ → ∃ μ', TQ sh I J m p F G μ' ∧ s_X11_tried_l46 m x n lo hi a 0 μ = some ((trA p F G x a n).elim (fun n' => .inl (n', (a : Int) + 1, μ')) (fun e => .inr (e, μ'))) := by
    intro a n μ ha hq
    unfold s_X11_tried_l46
    refine lp_loop (f := fun s : Int × Int × Me => s_X11_tried_l46_st m x s.1 lo hi a s.2.1 s.2.2) (trB p F G x a) p.toNat (TQ sh I J m p F G) (fun e μ' => .inr (e, μ')) (fun n' μ' => .inl (n', (a : Int) + 1, μ')) ?_ ?_ p.toNat 0 n μ (by omega) hq
    · rintro b n μ hb2 ⟨I2, rfl, k2, r2, g2, v2⟩
      have hI2 : I2 (m + 1) 0 = p := by rw [k2.w, hI]
      unfold s_X11_tried_l46_st
      dsimp only
      simp (disch := omega) only [t_ck T, bsome, t_p T, hI2, w32_id (x := p), w32_id (x := (b : Int)), if_neg, ifT]
      obtain ⟨μ', q', e'⟩ := lC a b n _ ha (by omega) ⟨I2, rfl, k2, r2, g2, v2⟩
      exact ⟨μ', q', e'⟩
    · rintro n μ ⟨I2, rfl, k2, r2, g2, v2⟩
      have hI2 : I2 (m + 1) 0 = p := by rw [k2.w, hI]
      unfold s_X11_tried_l46_st
      dsimp only
      simp (disch := omega) only [t_ck T, bsome, t_p T, hI2, w32_id (x := p), w32_id (x := ((p.toNat : Nat) : Int)), if_pos, ifT]
      exact ⟨_, ⟨I2, rfl, k2, r2, g2, v2⟩, rfl⟩
  have lA : ∃ μ', TQ sh I J m p F G μ' ∧ s_X11_tried_l34 m x 0 lo hi 0 (sh, I1, J) = some ((lpS (trA p F G x) p.toNat 0 0).elim (fun n' => (if x = 0 then n' else -1, μ')) (fun e => (e, μ'))) := by
    unfold s_X11_tried_l34
    refine lp_loop (f := fun s : Int × Int × Me => s_X11_tried_l34_st m x s.1 lo hi s.2.1 s.2.2) (trA p F G x) p.toNat (TQ sh I J m p F G) (fun e μ' => (e, μ')) (fun n' μ' => (if x = 0 then n' else -1, μ')) ?_ ?_ p.toNat 0 0 _ (by omega) q1
    · rintro a n μ ha ⟨I2, rfl, k2, r2, g2, v2⟩
      have hI2 : I2 (m + 1) 0 = p := by rw [k2.w, hI]
      unfold s_X11_tried_l34_st
      dsimp only
      simp (disch := omega) only [t_ck T, bsome, t_p T, hI2, w32_id (x := p), w32_id (x := (a : Int)), if_neg, ifT]
      obtain ⟨μ', q', e'⟩ := lB a n _ (by omega) ⟨I2, rfl, k2, r2, g2, v2⟩
      exact ⟨μ', q', e'⟩
    · rintro n μ ⟨I2, rfl, k2, r2, g2, v2⟩
      have hI2 : I2 (m + 1) 0 = p := by rw [k2.w, hI]
      unfold s_X11_tried_l34_st s_X11_tried_b216
      dsimp only
      simp (disch := omega) only [t_ck T, bsome, t_p T, hI2, w32_id (x := p), w32_id (x := ((p.toNat : Nat) : Int)), if_pos, ifT]
      refine ⟨_, ⟨I2, rfl, k2, r2, g2, v2⟩, ?_⟩
      rcases hx with rfl | rfl
      · rfl
      · rfl
  obtain ⟨μ', ⟨I2, rfl, k2, r2, g2, v2⟩, e2⟩ := lA
  refine ⟨I2, ?_, k2⟩
  rw [e2]
  unfold triP
  cases lpS (trA p F G x) p.toNat 0 0 <;> rfl
end TTr
