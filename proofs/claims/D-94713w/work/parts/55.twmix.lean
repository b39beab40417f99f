/-! the twin: values, mixing -/
set_option maxRecDepth 100000
theorem ex_g {ρ : Type} {x : Option ρ} (g : (Nat → Int → Int) → ρ) {A : (Nat → Int → Int) → Prop} (h : ∃ r, x = some r ∧ ∃ I', r = g I' ∧ A I') : ∃ I', x = some (g I') ∧ A I' := by
  obtain ⟨r, h1, I', h2, h3⟩ := h
  exact ⟨I', by rw [h1, h2], h3⟩
theorem emod_pow (a p : Int) : ∀ n : Nat, (a % p) ^ n % p = a ^ n % p
  | 0 => by rw [Int.pow_zero, Int.pow_zero]
  | n + 1 => by rw [Int.pow_succ, Int.pow_succ, emod_mul_r, ← emod_mul_l, emod_pow a p n, emod_mul_l]
theorem emod_id (p : Int) {a : Int} (h : 0 ≤ a ∧ a < p) : a % p = a := Int.emod_eq_of_lt h.1 h.2
theorem emod_emod_ (a p : Int) : a % p % p = a % p := Int.emod_emod_of_dvd _ (Int.dvd_refl p)
def sm : Nat → (Nat → Int) → Int
  | 0, _ => 0
  | n + 1, f => sm n f + f n
section TM
variable {sh : Sh} {I J : Nat → Int → Int} {m : Nat} {p : Int}
theorem t_plusM (T : TL sh m) (hI : I (m + 1) 0 = p) (hp : Pp p) (a b : Int) : s_X11_plus m (a % p) (b % p) (sh, I, J) = some ((a + b) % p, (sh, I, J)) := by
  have h1 := emod_b hp a
  have h2 := emod_b hp b
  have h3 := hp.b
  rw [t_plus T hI hp (by omega) (by omega), ← Int.add_emod]
theorem t_lessM (T : TL sh m) (hI : I (m + 1) 0 = p) (hp : Pp p) (a b : Int) : s_X11_less m (a % p) (b % p) (sh, I, J) = some ((a - b) % p, (sh, I, J)) := by
  have h1 := emod_b hp a
  have h2 := emod_b hp b
  have h3 := hp.b
  rw [t_less T hI hp (by omega) (by omega), ← Int.sub_emod]
theorem t_timesM (T : TL sh m) (hI : I (m + 1) 0 = p) (hp : Pp p) (a b : Int) : s_X11_times m (a % p) (b % p) (sh, I, J) = some (a * b % p, (sh, I, J)) := by
  have h1 := mul_b hp (emod_b hp a) (emod_b hp b)
  rw [t_times T hI hp h1.1 (by omega), ← Int.mul_emod]
theorem t_powerM (T : TL sh m) (hI : I (m + 1) 0 = p) (hp : Pp p) (a : Int) {n : Int} (h0 : 0 ≤ n) (h1 : n < 1000000) : s_X11_power m (a % p) n (sh, I, J) = some (a ^ n.toNat % p, (sh, I, J)) := by
  rw [t_power T hI hp (emod_b hp a) h0 h1, emod_pow]
theorem t_widensM (T : TL sh m) (hI : I (m + 1) 0 = p) (hp : Pp p) {r d : Int} (u v : Int) {c : Int → Int} (hr : 0 ≤ r ∧ r < 48) (hd : 0 ≤ d ∧ d < 40) (hc : RW I m p r d c) (hs : Sup d c) :
    ∃ I', s_X11_widens m r (u % p) (v % p) (sh, I, J) = some (sh, I', J) ∧ RW I' m p r (d + 1) (mulL u v c) ∧ RF m (fun q => q = r) I I' := by
  obtain ⟨I', h1, h2, h3⟩ := t_widens (J := J) T hI hp hr hd (emod_b hp u) (emod_b hp v) hc hs
  refine ⟨I', h1, h2.congr (fun k _ _ => ?_), h3⟩
  unfold mulL
  rw [Int.add_emod, emod_mul_l, emod_mul_l, ← Int.add_emod]
/-- a form's value -/
def evP (d : Int) (c : Int → Int) (x y : Int) : Int := sm (d + 1).toNat (fun k => c k * (x ^ (d.toNat - k) * y ^ k))
theorem t_valueAt (T : TL sh m) (hI : I (m + 1) 0 = p) (hp : Pp p) {r d : Int} {c : Int → Int} (x y : Int) (hr : 0 ≤ r ∧ r < 48) (hd : 0 ≤ d ∧ d ≤ 40) (hc : RW I m p r d c) :
    s_X11_valueAt m r (x % p) (y % p) (sh, I, J) = some (evP d c x y % p, (sh, I, J)) := by
  unfold s_X11_valueAt s_X11_valueAt_l6
  refine whileO_tr (d + 1).toNat (fun i => (sm i (fun k => c k * (x ^ (d.toNat - k) * y ^ k)) % p, (i : Int), (sh, I, J))) ?_ (fun i hi => ?_) ?_
  · unfold sm
    rw [Int.zero_emod]
    rfl
  · unfold s_X11_valueAt_l6_st
    dsimp only
    have h1 := hc.2 i (by omega) (by omega)
    simp (disch := omega) only [bsome, t_ck T, t_gI T, t_pI T, t_gJ T, t_pJ T, tR_deg T, tA_deg T, tU_deg T, t_of T, hc.1, w32_id, if_neg, h1, t_powerM T hI hp, t_timesM T hI hp, t_plusM T hI hp]
    rw [show (d - (i : Int)).toNat = d.toNat - i by omega, Int.toNat_natCast]
    rfl
  · unfold s_X11_valueAt_l6_st
    dsimp only
    simp (disch := omega) only [bsome, t_ck T, t_gI T, t_pI T, t_gJ T, t_pJ T, tR_deg T, tA_deg T, tU_deg T, hc.1, w32_id, if_pos]
    rfl
/-- a constant -/
def cst (v : Int) : Int → Int := fun k => if k = 0 then v else 0
def itL : Nat → Int → Int → (Int → Int) → Int → Int
  | 0, _, _, f => f
  | n + 1, u, v, f => mulL u v (itL n u v f)
theorem Sup.cst {v : Int} : Sup 0 (cst v) := fun k hk => if_neg (by omega)
theorem Sup.itL {d u v : Int} {c : Int → Int} (h : Sup d c) : ∀ n : Nat, Sup (d + n) (itL n u v c)
  | 0 => by simpa [Jvm.Pilot.CLetterFormsLaw_law_r4541_621673.itL] using h
  | n + 1 => by
    have h1 := (Sup.itL h n (u := u) (v := v)).mulL (u := u) (v := v)
    rw [show d + ((n + 1 : Nat) : Int) = d + n + 1 by omega]
    exact h1
/-- mixed: x goes to a x + b y, y to c x + d y -/
def mixP (n : Nat) (a b c d : Int) (x : Int → Int) : Int → Int := fun i => sm (n + 1) (fun k => itL k c d (itL (n - k) a b (cst (x k))) i)
/-- the table that is worked with -/
def TB (I : Nat → Int → Int) (m : Nat) (p a b c d : Int) : Prop := I m 6 = a % p ∧ I m 7 = b % p ∧ I m 8 = c % p ∧ I m 9 = d % p
theorem TB.keep {S : Int → Prop} {I I' : Nat → Int → Int} {a b c d : Int} (h : TB I m p a b c d) (hF : RF m S I I') : TB I' m p a b c d := by
  unfold TB
  rw [hF.1 m (by omega) (by omega)]
  exact h
theorem RF.pw {S : Int → Prop} {I I' : Nat → Int → Int} (hF : RF m S I I') (hI : I (m + 1) 0 = p) : I' (m + 1) 0 = p := by
  rw [hF.1 (m + 1) (by omega) (by omega), hI]
/-- row G is added to the row 'to' -/
theorem t_mix108 (T : TL sh m) (hI : I (m + 1) 0 = p) (hp : Pp p) {f to d x4 : Int} {A B : Int → Int} (hto : 0 ≤ to ∧ to < 48 ∧ to ≠ 45) (hd : 0 ≤ d ∧ d ≤ 40) (hA : RW I m p to d A) (hB : RW I m p 45 d B) :
    ∃ I', s_X11_mixes_l108 m f to d x4 0 (sh, I, J) = some (.inl (x4 + 1, (sh, I', J))) ∧ RW I' m p to d (fun k => A k + B k) ∧ RF m (fun q => q = to) I I' := by
  unfold s_X11_mixes_l108
  refine ex_g (fun I' => Sum.inl (x4 + 1, ((sh, I', J) : Me))) (whileO_for (d + 1).toNat
    (fun i s => ∃ I', s = ((i : Int), ((sh, I', J) : Me)) ∧ I' (m + 3) to = d ∧ (∀ k : Int, 0 ≤ k → k < i → I' (m + 4) (41 * to + k) = (A k + B k) % p) ∧ (∀ k : Int, i ≤ k → k ≤ d → I' (m + 4) (41 * to + k) = A k % p) ∧ RF m (fun q => q = to) I I')
    _ ?_ ?_ _ ?_)
  · rintro i s hi ⟨I3, rfl, a1, a2, a3, a4⟩
    have b1 := a3 i (by omega) (by omega)
    have b2 := (hB.keep a4 (by omega) (by omega) (by omega) hd.2).2 i (by omega) (by omega)
    obtain ⟨I4, e2, k1, k2, k3, k4⟩ := t_putR (I := I3) (J := J) T hto.1 hto.2.1 (k := i) (v := (A i + B i) % p) (by omega) (by omega)
    refine ⟨((i : Int) + 1, (sh, I4, J)), ?_, I4, by simp, by rw [k2]; exact a1, fun k x y => ?_, fun k x y => ?_, a4.trans k4⟩
    · unfold s_X11_mixes_l108_st
      dsimp only
      simp (disch := omega) only [t_ck T, bsome, w32_id, if_neg, t_of T, b1, b2, t_plusM T (a4.pw hI) hp, e2]
    · by_cases e : k = i
      · rw [e, k1]
      · rw [k3 _ (by omega)]
        exact a2 k x (by omega)
    · rw [k3 _ (by omega)]
      exact a3 k (by omega) y
  · rintro s ⟨I3, rfl, a1, a2, a3, a4⟩
    unfold s_X11_mixes_l108_st
    dsimp only
    rw [w32_id (by omega) (by omega), w32_id (by omega) (by omega), if_pos (by omega)]
    exact ⟨_, rfl, I3, rfl, ⟨a1, fun k x y => a2 k x (by omega)⟩, a4⟩
  · exact ⟨I, rfl, hA.1, fun k x y => by omega, fun k x y => hA.2 k (by omega) y, RF.refl⟩
theorem t_mix78 (T : TL sh m) (hI : I (m + 1) 0 = p) (hp : Pp p) {f to k : Int} {n : Nat} {a b c d : Int} {A B : Int → Int} (hto : 0 ≤ to ∧ to < 48 ∧ to ≠ 45) (hd : n ≤ 40) (hk : 0 ≤ k ∧ k ≤ n) (hT : TB I m p a b c d) (hA : RW I m p to n A) (hB : RW I m p 45 (n - k) B) (hs : Sup (n - k) B) :
    ∃ I', s_X11_mixes_l78 m f to n k 0 (sh, I, J) = some (.inl (k + 1, (sh, I', J))) ∧ RW I' m p to n (fun i => A i + itL k.toNat c d B i) ∧ RF m (fun q => q = 45 ∨ q = to) I I' := by
  unfold s_X11_mixes_l78
  refine ex_g (fun I' => Sum.inl (k + 1, ((sh, I', J) : Me))) (whileO_for k.toNat
    (fun i s => ∃ I', s = ((i : Int), ((sh, I', J) : Me)) ∧ RW I' m p 45 (n - k + i) (itL i c d B) ∧ RF m (fun q => q = 45 ∨ q = to) I I' ∧ RW I' m p to n A)
    _ ?_ ?_ _ ?_)
  · rintro i s hi ⟨I3, rfl, a1, a2, a3⟩
    obtain ⟨I4, e1, e2, e3⟩ := t_widensM (J := J) T (a2.pw hI) hp c d (r := 45) (by omega) (by omega) a1 (hs.itL i)
    have hT3 := hT.keep a2
    refine ⟨((i : Int) + 1, (sh, I4, J)), ?_, I4, by simp, ?_, a2.trans (e3.mono (fun q h => Or.inl h)), a3.keep e3 (by omega) (by omega) (by omega) (by omega)⟩
    · unfold s_X11_mixes_l78_st
      dsimp only
      simp (disch := omega) only [t_ck T, t_gI T, bsome, w32_id, if_neg, hT3.2.2.1, hT3.2.2.2, e1]
    · rw [show (n : Int) - k + ((i + 1 : Nat) : Int) = n - k + i + 1 by omega]
      exact e2
  · rintro s ⟨I3, rfl, a1, a2, a3⟩
    unfold s_X11_mixes_l78_st
    dsimp only
    obtain ⟨I4, e1, e2, e3⟩ := t_mix108 (J := J) (f := f) (x4 := k) T (a2.pw hI) hp hto (by omega) a3 (by rw [show (n : Int) - k + (k.toNat : Int) = n by omega] at a1; exact a1)
    rw [w32_id (by omega) (by omega), w32_id (by omega) (by omega), if_pos (by omega), e1]
    exact ⟨_, rfl, I4, rfl, e2, a2.trans (e3.mono (fun q h => Or.inr h))⟩
  · exact ⟨I, rfl, by simpa [itL] using hB, RF.refl, hA⟩
theorem t_mix46 (T : TL sh m) (hI : I (m + 1) 0 = p) (hp : Pp p) {f to k : Int} {n : Nat} {a b c d : Int} {A B : Int → Int} (hto : 0 ≤ to ∧ to < 48 ∧ to ≠ 45) (hd : n ≤ 40) (hk : 0 ≤ k ∧ k ≤ n) (hT : TB I m p a b c d) (hA : RW I m p to n A) (hB : RW I m p 45 0 B) (hs : Sup 0 B) :
    ∃ I', s_X11_mixes_l46 m f to n k 0 (sh, I, J) = some (.inl (k + 1, (sh, I', J))) ∧ RW I' m p to n (fun i => A i + itL k.toNat c d (itL (n - k.toNat) a b B) i) ∧ RF m (fun q => q = 45 ∨ q = to) I I' := by
  unfold s_X11_mixes_l46
  refine ex_g (fun I' => Sum.inl (k + 1, ((sh, I', J) : Me))) (whileO_for (n - k.toNat)
    (fun i s => ∃ I', s = ((i : Int), ((sh, I', J) : Me)) ∧ RW I' m p 45 i (itL i a b B) ∧ RF m (fun q => q = 45 ∨ q = to) I I' ∧ RW I' m p to n A)
    _ ?_ ?_ _ ?_)
  · rintro i s hi ⟨I3, rfl, a1, a2, a3⟩
    obtain ⟨I4, e1, e2, e3⟩ := t_widensM (J := J) T (a2.pw hI) hp a b (r := 45) (by omega) (by omega) a1 (by have := hs.itL (u := a) (v := b) i; rwa [Int.zero_add] at this)
    have hT3 := hT.keep a2
    refine ⟨((i : Int) + 1, (sh, I4, J)), ?_, I4, by simp, ?_, a2.trans (e3.mono (fun q h => Or.inl h)), a3.keep e3 (by omega) (by omega) (by omega) (by omega)⟩
    · unfold s_X11_mixes_l46_st
      dsimp only
      simp (disch := omega) only [t_ck T, t_gI T, bsome, w32_id, if_neg, hT3.1, hT3.2.1, e1]
    · exact e2
  · rintro s ⟨I3, rfl, a1, a2, a3⟩
    unfold s_X11_mixes_l46_st
    dsimp only
    have hs2 := hs.itL (u := a) (v := b) (n - k.toNat)
    rw [Int.zero_add, show ((n - k.toNat : Nat) : Int) = n - k by omega] at hs2
    rw [show ((n - k.toNat : Nat) : Int) = n - k by omega] at a1
    obtain ⟨I4, e1, e2, e3⟩ := t_mix78 (J := J) (f := f) T (a2.pw hI) hp hto hd hk (hT.keep a2) a3 a1 hs2
    rw [w32_id (by omega) (by omega), w32_id (by omega) (by omega), if_pos (by omega), e1]
    exact ⟨_, rfl, I4, rfl, e2, a2.trans e3⟩
  · exact ⟨I, rfl, by simpa [itL] using hB, RF.refl, hA⟩
theorem t_mixes (T : TL sh m) (hI : I (m + 1) 0 = p) (hp : Pp p) {f to : Int} {n : Nat} {a b c d : Int} {x : Int → Int} (hf : 0 ≤ f ∧ f < 48 ∧ f ≠ 45 ∧ f ≠ to) (hto : 0 ≤ to ∧ to < 48 ∧ to ≠ 45) (hd : n ≤ 40) (hT : TB I m p a b c d) (hx : RW I m p f n x) :
    ∃ I', s_X11_mixes m f to (sh, I, J) = some (sh, I', J) ∧ RW I' m p to n (mixP n a b c d x) ∧ RF m (fun q => q = 45 ∨ q = to) I I' := by
  unfold s_X11_mixes
  obtain ⟨I1, c1, c2, c3⟩ := t_clearsR (I := I) (J := J) (p := p) T hto.1 hto.2.1 (d := n) (by omega) (by omega)
  simp (disch := omega) only [bsome, t_ck T, t_gI T, t_pI T, t_gJ T, t_pJ T, tR_deg T, tA_deg T, tU_deg T, hx.1, c1]
  unfold s_X11_mixes_l16
  refine ex_g (fun I' => ((sh, I', J) : Me)) (whileO_for (n + 1)
    (fun i s => ∃ I', s = ((i : Int), ((sh, I', J) : Me)) ∧ RW I' m p to n (fun j => sm i (fun k => itL k c d (itL (n - k) a b (cst (x k))) j)) ∧ RF m (fun q => q = 45 ∨ q = to) I I')
    _ ?_ ?_ _ ?_)
  · rintro i s hi ⟨I3, rfl, a1, a2⟩
    obtain ⟨I4, d1, d2, d3⟩ := t_clearsR (I := I3) (J := J) (p := p) T (r := 45) (d := 0) (by omega) (by omega) (by omega) (by omega)
    have hx4 := (hx.keep a2 (by omega) hf.1 hf.2.1 (by omega)).keep d3 (by omega) hf.1 hf.2.1 (by omega)
    have hxi := hx4.2 i (by omega) (by omega)
    obtain ⟨I5, g1, g2, g3, g4, g5⟩ := t_putR (I := I4) (J := J) T (r := 45) (k := 0) (v := x i % p) (by omega) (by omega) (by omega) (by omega)
    have a5 : RF m (fun q => q = 45 ∨ q = to) I I5 := (a2.trans (d3.mono (fun q h => Or.inl h))).trans (g5.mono (fun q h => Or.inl h))
    have hB : RW I5 m p 45 0 (cst (x i)) := by
      refine ⟨by rw [g3]; exact d2.1, fun k h1 h2 => ?_⟩
      have hk : k = 0 := by omega
      subst hk
      rw [g2]
      rfl
    have hA5 := (a1.keep d3 (by omega) hto.1 hto.2.1 (by omega)).keep g5 (by omega) hto.1 hto.2.1 (by omega)
    obtain ⟨I6, h1, h2, h3⟩ := t_mix46 (J := J) (f := f) (k := i) T (a5.pw hI) hp hto hd (by omega) (hT.keep a5) hA5 hB Sup.cst
    refine ⟨((i : Int) + 1, (sh, I6, J)), ?_, I6, by simp, ?_, a5.trans h3⟩
    · unfold s_X11_mixes_l16_st
      dsimp only
      simp (disch := omega) only [t_ck T, bsome, w32_id, if_neg, d1, t_of T, hxi, g1, h1]
    · rw [Int.toNat_natCast] at h2
      exact h2
  · rintro s ⟨I3, rfl, a1, a2⟩
    unfold s_X11_mixes_l16_st
    dsimp only
    rw [w32_id (by omega) (by omega), w32_id (by omega) (by omega), if_pos (by omega)]
    exact ⟨_, rfl, I3, rfl, a1, a2⟩
  · exact ⟨I1, rfl, c2, c3.mono (fun q h => Or.inr h)⟩
end TM
