/-! the twin: agree; roots -/
set_option maxRecDepth 100000
/-- leading noughts -/
def ldZ (p : Int) (c : Int → Int) : Nat → Nat → Nat
  | 0, i => i
  | n + 1, i => if c i % p = 0 then ldZ p c n (i + 1) else i
/-- divided by what is nought at t (synthetic division) -/
def syD (t : Int) (c : Int → Int) : Nat → Int
  | 0 => c 0
  | k + 1 => c ((k + 1 : Nat) : Int) + t * syD t c k
/-- how often t is a root -/
def rtF (p t : Int) : Nat → (Int → Int) → Int
  | 0, _ => 0
  | d + 1, c => if syD t c (d + 1) % p = 0 then 1 + rtF p t d (fun k => syD t c k.toNat) else 0
/-- the root's order of a form that is not nought -/
def ofR (p : Int) (d : Nat) (c : Int → Int) (t : Int) : Int := if t = p then ldZ p c d 0 else rtF p t d c
def rtP (p : Int) (F : Fo) (t : Int) : Int := if nzI p F.2 (F.1 + 1) = 1 then 99 else ofR p F.1 F.2 t
theorem rtF_b (p t : Int) : ∀ (d : Nat) (c : Int → Int), 0 ≤ rtF p t d c ∧ rtF p t d c ≤ d
  | 0, _ => ⟨Int.le_refl _, Int.le_refl _⟩
  | d + 1, c => by
    have := rtF_b p t d (fun k => syD t c k.toNat)
    unfold rtF
    split <;> omega
theorem ldZ_b (p : Int) (c : Int → Int) : ∀ n i : Nat, i ≤ ldZ p c n i ∧ ldZ p c n i ≤ i + n
  | 0, i => ⟨Nat.le_refl _, Nat.le_refl _⟩
  | n + 1, i => by
    have := ldZ_b p c n (i + 1)
    unfold ldZ
    split <;> omega
theorem ldZ_spec (p : Int) (c : Int → Int) : ∀ n i : Nat, (∀ k : Nat, i ≤ k → k < ldZ p c n i → c k % p = 0) ∧ (ldZ p c n i < i + n → c (ldZ p c n i) % p ≠ 0)
  | 0, i => ⟨fun k a b => absurd b (by show ¬ k < i; omega), fun h => absurd h (by show ¬ i < i + 0; omega)⟩
  | n + 1, i => by
    obtain ⟨h1, h2⟩ := ldZ_spec p c n (i + 1)
    unfold ldZ
    by_cases h : c i % p = 0
    · rw [if_pos h]
      refine ⟨fun k a b => ?_, fun g => h2 (by omega)⟩
      by_cases e : k = i
      · rw [e, h]
      · exact h1 k (by omega) b
    · rw [if_neg h]
      exact ⟨fun k a b => by omega, fun _ => h⟩
theorem ofR_b (p : Int) (d : Nat) (c : Int → Int) (t : Int) : 0 ≤ ofR p d c t ∧ ofR p d c t ≤ d := by
  unfold ofR
  have h1 := ldZ_b p c d 0
  have h2 := rtF_b p t d c
  split <;> omega
theorem pow_one_ (k : Nat) : (1 : Int) ^ k = 1 := Int.one_pow
/-- Horner's way -/
theorem syD_sm (t : Int) (c : Int → Int) : ∀ d : Nat, syD t c d = sm (d + 1) (fun k => c k * (t ^ (d - k) * 1 ^ k))
  | 0 => by
    show c 0 = 0 + c (0 : Nat) * (t ^ 0 * 1 ^ 0)
    rw [Int.pow_zero, Int.pow_zero, Int.mul_one, Int.mul_one, Int.zero_add]
    rfl
  | d + 1 => by
    show c ((d + 1 : Nat) : Int) + t * syD t c d = sm (d + 1) _ + c ((d + 1 : Nat) : Int) * (t ^ (d + 1 - (d + 1)) * 1 ^ (d + 1))
    rw [syD_sm t c d, ← sm_mul, Nat.sub_self, Int.pow_zero, pow_one_, Int.mul_one, Int.mul_one, Int.add_comm]
    congr 1
    refine sm_congr (fun k hk => ?_)
    rw [show d + 1 - k = (d - k) + 1 by omega, Int.pow_succ]
    grind
theorem syD_ev (t : Int) (c : Int → Int) (d : Nat) : evP d c t 1 = syD t c d := by
  rw [syD_sm]
  unfold evP
  rw [show ((d : Int) + 1).toNat = d + 1 by omega, Int.toNat_natCast]
section TAg
variable {sh : Sh} {I J : Nat → Int → Int} {m : Nat} {p : Int}
theorem t_agree (T : TL sh m) (hW : WI (I (m + 1))) {s u d : Int} (hs : i32 s) (hu : i32 u) (hd : i32 d) :
    (∀ (n1 : Nat) (t1 : Tr n1) (n2 : Nat) (t2 : Tr n2), (0 ≤ s ∧ s < I (m + 1) 3) → (0 ≤ u ∧ u < I (m + 1) 3) → (0 ≤ d ∧ d ≤ 8) → SgW (I (m + 1)) s n1 t1 → SgW (I (m + 1)) u n2 t2 → QG (s_X11_agree m s u d (sh, I, J)) sh I J m
      (fst0 (agP (I (m + 1)) d (fun F => Tr.val F n1 t1) (fun F => Tr.val F n2 t2)) (I (m + 1) 1).toNat 0)) ∧
    (¬((0 ≤ s ∧ s < I (m + 1) 3) ∧ (0 ≤ u ∧ u < I (m + 1) 3)) → QB (s_X11_agree m s u d (sh, I, J)) sh I J m 1) ∧
    (((0 ≤ s ∧ s < I (m + 1) 3) ∧ (0 ≤ u ∧ u < I (m + 1) 3)) → ¬(0 ≤ d ∧ d ≤ 8) → QB (s_X11_agree m s u d (sh, I, J)) sh I J m 2) := by
  obtain ⟨W, hw⟩ : ∃ W, I (m + 1) = W := ⟨_, rfl⟩
  rw [hw] at hW ⊢
  have hc1 := hW.c1
  have hc3 := hW.c3
  have hp := hW.pp
  have h0 : thr I m 0 (m + 1) = W := by rw [thr_n (by omega), hw]
  have e1 := t_noS (I := thr I m 0) (J := J) T (by rw [h0]; exact hc3) hs
  have e1' := t_noS (I := thr I m 0) (J := J) T (by rw [h0]; exact hc3) hu
  rw [h0] at e1 e1'
  have e3 := x_in (lo := 0) (hi := 8) hd ⟨by omega, by omega⟩ ⟨by omega, by omega⟩ (sh, thr I m 0, J)
  refine ⟨fun n1 t1 n2 t2 h g gd hS1 hS2 => ?_, fun h => ?_, fun h gd => ?_⟩
  · rw [if_pos h] at e1
    rw [if_pos g] at e1'
    rw [if_pos gd] at e3
    have pre : s_X11_agree m s u d (sh, I, J) = s_X11_agree_l62 m s u d 0 (sh, thr I m 0, J) := by
      unfold s_X11_agree
      simp (disch := omega) only [t_thr T, bsome, t_ck T, e1, e1', w32_id, if_pos, ifT]
      unfold s_X11_agree_b27
      simp (disch := omega) only [bsome, t_ck T, t_if0, w32_id, if_pos, if_neg, e3, ifT]
      unfold s_X11_agree_b50
      simp (disch := omega) only [bsome, t_ck T, t_if0, w32_id, if_pos, ifT]
    rw [pre]
    obtain ⟨P, hP⟩ : ∃ P, agP W d (fun F => Tr.val F n1 t1) (fun F => Tr.val F n2 t2) = P := ⟨_, rfl⟩
    rw [hP]
    have key : ∀ (k i : Nat) (I1 : Nat → Int → Int), i + k = (W 1).toNat → HK m (thr I m 0) I1 → ∃ I', s_X11_agree_l62 m s u d i (sh, I1, J) = some (fst0 P k i, (sh, I', J)) ∧ HK m (thr I m 0) I' := by
      intro k
      induction k with
      | zero =>
        intro i I1 hi k1
        have hw1 : I1 (m + 1) = W := by rw [k1.w, h0]
        refine ⟨I1, ?_, k1⟩
        rw [e_X11_agree_l62]
        unfold s_X11_agree_l62_st
        simp (disch := omega) only [bsome, t_ck T, t_gI T, t_pI T, t_gJ T, t_pJ T, tR_world T, tA_world T, tU_world T, hw1, w32_id, if_pos, ifT]
        rfl
      | succ k ih =>
        intro i I1 hi k1
        have hw1 : I1 (m + 1) = W := by rw [k1.w, h0]
        have hF := hW.f (f := i) (by omega) (by omega)
        have hFd := hF.1
        rw [e_X11_agree_l62]
        unfold s_X11_agree_l62_st
        simp (disch := omega) only [bsome, t_ck T, t_gI T, t_pI T, t_gJ T, t_pJ T, tR_world T, tA_world T, tU_world T, hw1, w32_id, if_neg, t_degreeOf T, ifT]
        show ∃ I', _ = some (if P i = 0 then (i : Int) else fst0 P k (i + 1), _) ∧ _
        have hPi : P i = if fD W i = d then alk (W 0) (Tr.val (fF W i) n1 t1) (Tr.val (fF W i) n2 t2) else 1 := by rw [← hP]; rfl
        by_cases hdd : fD W i = d
        · rw [if_pos hdd] at hPi ⊢
          obtain ⟨I2, e4, r4, f4⟩ := t_takesF (I := I1) (J := J) T hw1 hW (r := 44) (f := i) (by omega) (by omega) (by omega)
          have hw4 : I2 (m + 1) = W := by rw [f4.w, hw1]
          have hF8 := (fF_1 hF).2
          obtain ⟨F, hFF⟩ : ∃ F, fF W i = F := ⟨_, rfl⟩
          rw [hFF] at r4 hF8 hPi
          obtain ⟨g1, g2⟩ := t_makes (J := J) T (p := W 0) (by rw [hw4]) hp (s := s) (by omega) (F := F) (by omega) (by rw [hw4]; exact hS1) r4
          have second : ∀ (I3 : Nat → Int → Int) (x : Int) (va : Option Fo), HK m (thr I m 0) I3 → RW I3 m (W 0) 44 F.1 F.2 → (va = none ∧ x = 0 ∨ x = 1 ∧ ∃ v, va = some v ∧ v.1 ≤ 40 ∧ RW I3 m (W 0) 42 v.1 v.2) →
              ∃ I4, s_X11_agree_b113 m s u d i x (sh, I3, J) = some (if alk (W 0) va (Tr.val F n2 t2) = 0 then Sum.inr ((i : Int), ((sh, I4, J) : Me)) else Sum.inl ((i : Int) + 1, (sh, I4, J))) ∧ HK m (thr I m 0) I4 := by
            intro I3 x va k3 r3 hva
            have hw3 : I3 (m + 1) = W := by rw [k3.w, h0]
            obtain ⟨y1, y2⟩ := t_makes (J := J) T (p := W 0) (by rw [hw3]) hp (s := u) (by omega) (F := F) (by omega) (by rw [hw3]; exact hS2) r3
            unfold s_X11_agree_b113
            cases hz : Tr.val F n2 t2 with
            | none =>
              obtain ⟨I4, z1, z2⟩ := y2 hz
              refine ⟨I4, ?_, k3.trans z2.hk⟩
              simp only [t_ck T, bsome, z1]
              rcases hva with ⟨rfl, rfl⟩ | ⟨rfl, v, rfl, -, -⟩
              · rfl
              · rfl
            | some z =>
              obtain ⟨I4, z1, z2, z3⟩ := y1 z hz
              have hzd := Tr.val_d (show F.1 ≤ 40 by omega) n2 t2 z hz
              refine ⟨I4, ?_, k3.trans z3.hk⟩
              simp only [t_ck T, bsome, z1]
              rcases hva with ⟨rfl, rfl⟩ | ⟨rfl, v, rfl, hvd, hvr⟩
              · rfl
              · have e10 := t_isL (J := J) T hp (r := 0) (q := 42) (by omega) (by omega) (by omega) (by omega) z2 (hvr.keep z3 (by unfold mkS; omega) (by omega) (by omega) (by omega))
                rw [if_pos rfl, show w32 1 = 1 from rfl, if_neg (by decide), e10, bsome]
                show _ = some (if lkI (W 0) v.1 v.2 z.1 z.2 = 0 then _ else _)
                rw [lkI_symm (W 0) v.1 v.2 z.1 z.2 (by omega) (by omega)]
                rcases (lkI_iff (p := W 0) (d := z.1) (x := z.2) (e := v.1) (y := v.2) (by omega)).1 with x | x
                · rw [x]; rfl
                · rw [x]; rfl
          have fin : ∀ (I3 : Nat → Int → Int) (x : Int) (va : Option Fo), Tr.val F n1 t1 = va → HK m (thr I m 0) I3 → RW I3 m (W 0) 44 F.1 F.2 → (va = none ∧ x = 0 ∨ x = 1 ∧ ∃ v, va = some v ∧ v.1 ≤ 40 ∧ RW I3 m (W 0) 42 v.1 v.2) →
              ∃ I', (s_X11_agree_b113 m s u d i x (sh, I3, J)).bind (fun z => z.elim (fun z : Int × Me => s_X11_agree_l62 m s u d z.1 z.2) some) = some (if P i = 0 then (i : Int) else fst0 P k (i + 1), (sh, I', J)) ∧ HK m (thr I m 0) I' := by
            intro I3 x va hva0 k3 r3 hva
            obtain ⟨I4, c1, c2⟩ := second I3 x va k3 r3 hva
            rw [c1, bsome, hPi, hva0]
            by_cases h9 : alk (W 0) va (Tr.val F n2 t2) = 0
            · rw [if_pos h9, if_pos h9]
              exact ⟨I4, rfl, c2⟩
            · rw [if_neg h9, if_neg h9]
              exact ih (i + 1) I4 (by omega) c2
          rw [e4, bsome]
          simp only [t_ck T, bsome]
          cases hv : Tr.val F n1 t1 with
          | none =>
            obtain ⟨I3, c1, c2⟩ := g2 hv
            rw [c1, bsome]
            dsimp only
            rw [show w32 0 = 0 from rfl, if_pos rfl]
            exact fin I3 0 none hv ((k1.trans f4.hk).trans c2.hk) (r4.keep c2 (by unfold mkS; omega) (by omega) (by omega) (by omega)) (Or.inl ⟨rfl, rfl⟩)
          | some v =>
            obtain ⟨I3, c1, c2, c3⟩ := g1 v hv
            have hvd := Tr.val_d (show F.1 ≤ 40 by omega) n1 t1 v hv
            obtain ⟨I5, e5, r5, f5⟩ := t_copies (J := J) T (r := 0) (to := 42) (by omega) (by omega) (by omega) c2
            rw [c1, bsome]
            dsimp only
            rw [show w32 1 = 1 from rfl, if_neg (by decide), t_ck T, bsome, e5, bsome]
            exact fin I5 1 (some v) hv (((k1.trans f4.hk).trans c3.hk).trans f5.hk) ((r4.keep c3 (by unfold mkS; omega) (by omega) (by omega) (by omega)).keep f5 (by omega) (by omega) (by omega) (by omega)) (Or.inr ⟨rfl, v, rfl, hvd, r5⟩)
        · rw [if_neg hdd] at hPi ⊢
          rw [hPi, if_neg (by decide)]
          exact ih (i + 1) I1 (by omega) k1
    obtain ⟨I', r1, r2⟩ := key (W 1).toNat 0 (thr I m 0) (by omega) HK.refl
    exact ⟨I', J, r1, r2, HJ.refl⟩
  · have key : s_X11_agree m s u d (sh, I, J) = s_X11_agree_b22 m s u d m (sh, thr I m 0, J) := by
      unfold s_X11_agree
      simp (disch := omega) only [t_thr T, bsome, t_ck T, e1, e1']
      by_cases h1 : 0 ≤ s ∧ s < W 3
      · rw [if_pos h1, if_neg (fun h2 => h ⟨h1, h2⟩)]
        simp (disch := omega) only [w32_id, if_pos, if_neg, ifT]
        all_goals rfl
      · rw [if_neg h1]
        simp (disch := omega) only [w32_id, if_neg, ifT]
    rw [key]
    unfold s_X11_agree_b22 s_X11_agree_b27
    simp (disch := omega) only [t_ck T, bsome, t_if1 T, w32_id, if_neg, thr_thr, ifT]
    exact ⟨_, _, _, rfl, HK.refl, HJ.refl⟩
  · rw [if_pos h.1] at e1
    rw [if_pos h.2] at e1'
    rw [if_neg gd] at e3
    unfold s_X11_agree
    simp (disch := omega) only [t_thr T, bsome, t_ck T, e1, e1', w32_id, if_pos, ifT]
    unfold s_X11_agree_b27
    simp (disch := omega) only [bsome, t_ck T, t_if0, w32_id, if_pos, e3, ifT]
    unfold s_X11_agree_b50
    simp (disch := omega) only [t_ck T, bsome, t_if1 T, w32_id, if_neg, thr_thr, ifT]
    exact ⟨_, _, _, rfl, HK.refl, HJ.refl⟩
end TAg
