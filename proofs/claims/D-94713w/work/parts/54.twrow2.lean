/-! the twin's rows as polynomials -/
set_option maxRecDepth 100000
/-- only rows of S are touched -/
def RF (m : Nat) (S : Int → Prop) (I I' : Nat → Int → Int) : Prop :=
  (∀ a : Nat, a ≠ m + 3 → a ≠ m + 4 → I' a = I a) ∧ ∀ q : Int, 0 ≤ q → q < 48 → ¬ S q → I' (m + 3) q = I (m + 3) q ∧ ∀ k : Int, 0 ≤ k → k < 41 → I' (m + 4) (41 * q + k) = I (m + 4) (41 * q + k)
theorem RF.refl {m : Nat} {S : Int → Prop} {I : Nat → Int → Int} : RF m S I I := ⟨fun _ _ _ => rfl, fun _ _ _ _ => ⟨rfl, fun _ _ _ => rfl⟩⟩
theorem RF.trans {m : Nat} {S : Int → Prop} {I I' I2 : Nat → Int → Int} (h : RF m S I I') (h2 : RF m S I' I2) : RF m S I I2 :=
  ⟨fun a x y => (h2.1 a x y).trans (h.1 a x y), fun q x y z => ⟨(h2.2 q x y z).1.trans (h.2 q x y z).1, fun k u v => ((h2.2 q x y z).2 k u v).trans ((h.2 q x y z).2 k u v)⟩⟩
theorem RF.mono {m : Nat} {S S' : Int → Prop} {I I' : Nat → Int → Int} (h : RF m S I I') (hS : ∀ q, S q → S' q) : RF m S' I I' :=
  ⟨h.1, fun q x y z => h.2 q x y (fun h9 => z (hS q h9))⟩
/-- row r holds, modulo p, the numbers c 0 .. c d -/
def RW (I : Nat → Int → Int) (m : Nat) (p r d : Int) (c : Int → Int) : Prop := I (m + 3) r = d ∧ ∀ k : Int, 0 ≤ k → k ≤ d → I (m + 4) (41 * r + k) = c k % p
theorem RW.keep {m : Nat} {S : Int → Prop} {I I' : Nat → Int → Int} {p r d : Int} {c : Int → Int} (h : RW I m p r d c) (hF : RF m S I I') (hS : ¬ S r) (h0 : 0 ≤ r) (h1 : r < 48) (h2 : d ≤ 40) : RW I' m p r d c := by
  obtain ⟨g1, g2⟩ := hF.2 r h0 h1 hS
  exact ⟨g1.trans h.1, fun k a b => (g2 k a (by omega)).trans (h.2 k a b)⟩
theorem RW.congr {I : Nat → Int → Int} {m : Nat} {p r d : Int} {c c' : Int → Int} (h : RW I m p r d c) (e : ∀ k, 0 ≤ k → k ≤ d → c k % p = c' k % p) : RW I m p r d c' := ⟨h.1, fun k a b => (h.2 k a b).trans (e k a b)⟩
/-- nothing outside 0 .. d -/
def Sup (d : Int) (c : Int → Int) : Prop := ∀ k : Int, k < 0 ∨ d < k → c k = 0
/-- times u x + v y -/
def mulL (u v : Int) (c : Int → Int) : Int → Int := fun k => u * c k + v * c (k - 1)
theorem Sup.mulL {d u v : Int} {c : Int → Int} (h : Sup d c) : Sup (d + 1) (mulL u v c) := by
  intro k hk
  unfold Jvm.Pilot.CLetterFormsLaw_law_r4541_621673.mulL
  rw [h k (by omega), h (k - 1) (by omega)]
  omega
theorem lin2 (a b u v p : Int) : (a % p * u % p + b % p * v % p) % p = (u * a + v * b) % p := by
  rw [emod_mul_l, emod_mul_l, ← Int.add_emod, Int.mul_comm a, Int.mul_comm b]
theorem ex_me {sh : Sh} {J : Nat → Int → Int} {x : Option Me} {A : (Nat → Int → Int) → Prop} (h : ∃ r, x = some r ∧ ∃ I', r = (sh, I', J) ∧ A I') : ∃ I', x = some (sh, I', J) ∧ A I' := by
  obtain ⟨r, h1, I', h2, h3⟩ := h
  exact ⟨I', by rw [h1, h2], h3⟩
section TR
variable {sh : Sh} {I J : Nat → Int → Int} {m : Nat} {p : Int}
theorem t_clearsR (T : TL sh m) {r d : Int} (h0 : 0 ≤ r) (h1 : r < 48) (h2 : -1 ≤ d) (h3 : d ≤ 40) : ∃ I', s_X11_clears m r d (sh, I, J) = some (sh, I', J) ∧ RW I' m p r d (fun _ => 0) ∧ RF m (fun q => q = r) I I' := by
  refine ⟨_, t_clears T h0 h1 h2 h3, ⟨?_, fun k a b => ?_⟩, fun a x y => ?_, fun q x y z => ⟨?_, fun k u v => ?_⟩⟩
  · rw [up1_n _ _ (by omega), up1_s, upz_s]
  · rw [up1_s]
    unfold zr
    rw [if_pos (by omega), Int.zero_emod]
  · rw [up1_n _ _ y, up1_n _ _ x]
  · rw [up1_n _ _ (by omega), up1_s, upz_n _ _ z]
  · rw [up1_s]
    unfold zr
    rw [if_neg (by omega)]
/-- one number of a row is put -/
theorem t_putR (T : TL sh m) {r k v : Int} (h0 : 0 ≤ r) (h1 : r < 48) (h2 : 0 ≤ k) (h3 : k < 41) : ∃ I', s_X11_put m r k v (sh, I, J) = some (sh, I', J) ∧ I' (m + 4) (41 * r + k) = v ∧ I' (m + 3) = I (m + 3) ∧ (∀ j, j ≠ 41 * r + k → I' (m + 4) j = I (m + 4) j) ∧ RF m (fun q => q = r) I I' := by
  refine ⟨_, t_put T (by omega) (by omega), ?_, ?_, fun j hj => ?_, fun a x y => ?_, fun q x y z => ⟨?_, fun k u v => ?_⟩⟩
  · rw [up1_s, upz_s]
  · rw [up1_n _ _ (by omega)]
  · rw [up1_s, upz_n _ _ hj]
  · rw [up1_n _ _ y]
  · rw [up1_n _ _ (by omega)]
  · rw [up1_s, upz_n _ _ (by omega)]
theorem t_widens (T : TL sh m) (hI : I (m + 1) 0 = p) (hp : Pp p) {r d u v : Int} {c : Int → Int} (hr : 0 ≤ r ∧ r < 48) (hd : 0 ≤ d ∧ d < 40) (hu : 0 ≤ u ∧ u < p) (hv : 0 ≤ v ∧ v < p) (hc : RW I m p r d c) (hs : Sup d c) :
    ∃ I', s_X11_widens m r u v (sh, I, J) = some (sh, I', J) ∧ RW I' m p r (d + 1) (mulL u v c) ∧ RF m (fun q => q = r) I I' := by
  unfold s_X11_widens
  simp (disch := omega) only [bsome, t_ck T, t_gI T, t_pI T, t_gJ T, t_pJ T, tR_deg T, tA_deg T, tU_deg T]
  rw [hc.1]
  obtain ⟨I1, e1, f1, f2, f3, f4⟩ := t_putR (I := I) (J := J) T hr.1 hr.2 (k := d + 1) (v := 0) (by omega) (by omega)
  rw [e1]
  simp (disch := omega) only [bsome, t_ck T, t_gI T, t_pI T, t_gJ T, t_pJ T, tR_deg T, tA_deg T, tU_deg T]
  rw [f2, hc.1]
  simp only [up1_s, upz_s]
  unfold s_X11_widens_l32
  obtain ⟨I2, hI2⟩ : ∃ I2, I2 = up1 I1 (m + 3) (upz (I (m + 3)) r (d + 1)) := ⟨_, rfl⟩
  rw [← hI2]
  have g1 : I2 (m + 3) r = d + 1 := by rw [hI2, up1_s, upz_s]
  have g2 : I2 (m + 4) = I1 (m + 4) := by rw [hI2, up1_n _ _ (by omega)]
  have g3 : RF m (fun q => q = r) I I2 := by
    refine ⟨fun a x y => ?_, fun q x y z => ⟨?_, fun k a b => ?_⟩⟩
    · rw [hI2, up1_n _ _ x, f4.1 a x y]
    · rw [hI2, up1_s, upz_n _ _ z]
    · rw [g2, (f4.2 q x y z).2 k a b]
  refine ex_me (whileO_for (f := fun s : Int × Me => s_X11_widens_l32_st m r u v s.1 s.2) (d + 2).toNat
    (fun i s => ∃ I', s = (d + 1 - i, (sh, I', J)) ∧ I' (m + 3) r = d + 1 ∧ (∀ k : Int, 0 ≤ k → k ≤ d + 1 - i → I' (m + 4) (41 * r + k) = c k % p) ∧ (∀ k : Int, d + 1 - i < k → k ≤ d + 1 → I' (m + 4) (41 * r + k) = mulL u v c k % p) ∧ RF m (fun q => q = r) I I')
    _ ?_ ?_ (d + 1, (sh, I2, J)) ?_)
  · rintro i s hi ⟨I3, rfl, a1, a2, a3, a4⟩
    have hI3 : I3 (m + 1) 0 = p := by rw [a4.1 (m + 1) (by omega) (by omega), hI]
    unfold s_X11_widens_l32_st s_X11_widens_b77
    dsimp only
    have b1 := a2 (d + 1 - i) (by omega) (by omega)
    have c1 := emod_b hp (c (d + 1 - i))
    have c2 := mul_b hp c1 hu
    have c3 := emod_b hp (c (d + 1 - i) % p * u)
    rw [w32_id (by omega) (by omega), if_neg (by omega), t_ck T, bsome, t_of T (by omega) (by omega), bsome, b1]
    dsimp only
    rw [t_ck T, bsome, t_times T hI3 hp c2.1 (by omega), bsome]
    dsimp only
    by_cases hk : d + 1 - (i : Int) ≤ 0
    · have hk0 : d + 1 - (i : Int) = 0 := by omega
      rw [if_pos hk, t_ck T, bsome, t_plus T hI3 hp (by omega) (by have := hp.b; omega), bsome]
      dsimp only
      rw [t_ck T, bsome]
      obtain ⟨I4, e2, k1, k2, k3, k4⟩ := t_putR (I := I3) (J := J) T hr.1 hr.2 (k := d + 1 - i) (v := (c (d + 1 - ↑i) % p * u % p + 0) % p) (by omega) (by omega)
      rw [e2]
      refine ⟨_, rfl, I4, ?_, by rw [k2]; exact a1, fun k x y => by omega, fun k x y => ?_, a4.trans k4⟩
      · rw [show d + 1 - (i : Int) + -1 = d + 1 - ((i + 1 : Nat) : Int) by omega]
      · by_cases e : k = d + 1 - (i : Int)
        · subst e
          rw [k1]
          unfold mulL
          rw [hs (d + 1 - (i : Int) - 1) (by omega), Int.mul_zero, Int.add_zero, Int.add_zero, Int.emod_emod_of_dvd _ (Int.dvd_refl p), emod_mul_l, Int.mul_comm]
        · rw [k3 _ (by omega)]
          exact a3 k (by omega) y
    · have b2 := a2 (d + 1 - i - 1) (by omega) (by omega)
      have c4 := emod_b hp (c (d + 1 - i - 1))
      have c5 := mul_b hp c4 hv
      have c6 := emod_b hp (c (d + 1 - i - 1) % p * v)
      have hb := hp.b
      rw [if_neg hk, t_ck T, bsome, t_of T (by omega) (by omega), bsome, b2]
      dsimp only
      rw [t_ck T, bsome, t_times T hI3 hp c5.1 (by omega), bsome]
      dsimp only
      rw [t_ck T, bsome, t_plus T hI3 hp (by omega) (by omega), bsome]
      dsimp only
      rw [t_ck T, bsome]
      obtain ⟨I4, e2, k1, k2, k3, k4⟩ := t_putR (I := I3) (J := J) T hr.1 hr.2 (k := d + 1 - i) (v := (c (d + 1 - ↑i) % p * u % p + c (d + 1 - ↑i - 1) % p * v % p) % p) (by omega) (by omega)
      rw [e2]
      refine ⟨_, rfl, I4, ?_, by rw [k2]; exact a1, fun k x y => ?_, fun k x y => ?_, a4.trans k4⟩
      · rw [show d + 1 - (i : Int) + -1 = d + 1 - ((i + 1 : Nat) : Int) by omega]
      · rw [k3 _ (by omega)]
        exact a2 k x (by omega)
      · by_cases e : k = d + 1 - (i : Int)
        · subst e
          rw [k1, lin2]
          rfl
        · rw [k3 _ (by omega)]
          exact a3 k (by omega) y
  · rintro s ⟨I3, rfl, a1, a2, a3, a4⟩
    unfold s_X11_widens_l32_st
    dsimp only
    rw [w32_id (by omega) (by omega), if_pos (by omega)]
    exact ⟨_, rfl, I3, rfl, ⟨a1, fun k x y => a3 k (by omega) y⟩, a4⟩
  · refine ⟨I2, by simp, g1, fun k x y => ?_, fun k x y => by omega, g3⟩
    rw [g2]
    by_cases e : k = d + 1
    · subst e
      rw [f1, hs (d + 1) (by omega), Int.zero_emod]
    · rw [f3 _ (by omega)]
      exact hc.2 k x (by omega)
end TR
