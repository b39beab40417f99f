/-! the twin: rows of what signs make of drawn forms -/
set_option maxRecDepth 100000
def drS (seed : Int) : Nat → Int
  | 0 => seed
  | k + 1 => 1103515245 * drS seed k + 12345
def drV (p seed : Int) (k : Nat) : Int := anI (srI (drS seed (k + 1)) 16) 32767 % p
/-- the x-th drawn form -/
def drF (p seed : Int) (d x : Nat) : Fo := (d, fun i => drV p seed (x * (d + 1) + i.toNat))
/-- the degree of what signs make -/
def jnD (o : Int × Int) (a b : Nat) : Option Nat :=
  if o.1 = 2 then (if a = b then some a else none)
  else if o.1 = 3 then (if a + b ≤ 40 then some (a + b) else none)
  else if o.2 ≤ a ∧ o.2 ≤ b ∧ (a : Int) + b - 2 * o.2 ≤ 40 then some (((a : Int) + b - 2 * o.2).toNat) else none
def Tr.dg (d : Nat) : (n : Nat) → Tr n → Option Nat
  | 0, t => Empty.elim t
  | _ + 1, .inl _ => some d
  | _ + 1, .inr (.inl _) => some 0
  | n + 1, .inr (.inr (.inl t)) => Tr.dg d n t
  | n + 1, .inr (.inr (.inr (o, t1, t2))) => (Tr.dg d n t1).bind fun a => (Tr.dg d n t2).bind fun b => jnD o a b
theorem jnV_dg (o : Int × Int) (a b : Fo) : (jnV o a b).map (fun v : Fo => v.1) = jnD o a.1 b.1 := by
  unfold jnV jnD
  split
  · split <;> rfl
  · split
    · split <;> rfl
    · split <;> rfl
theorem Tr.val_dg (F : Fo) : ∀ (n : Nat) (t : Tr n), (Tr.val F n t).map (fun v : Fo => v.1) = Tr.dg F.1 n t
  | 0, t => Empty.elim t
  | _ + 1, .inl _ => rfl
  | _ + 1, .inr (.inl _) => rfl
  | n + 1, .inr (.inr (.inl t)) => by
    rw [show Tr.dg F.1 (n + 1) (.inr (.inr (.inl t))) = Tr.dg F.1 n t from rfl, ← Tr.val_dg F n t]
    show ((Tr.val F n t).map _).map _ = _
    cases Tr.val F n t <;> rfl
  | n + 1, .inr (.inr (.inr (o, t1, t2))) => by
    show ((Tr.val F n t1).bind fun a => (Tr.val F n t2).bind fun b => jnV o a b).map (fun v : Fo => v.1) = (Tr.dg F.1 n t1).bind fun a => (Tr.dg F.1 n t2).bind fun b => jnD o a b
    rw [← Tr.val_dg F n t1, ← Tr.val_dg F n t2]
    cases Tr.val F n t1 with
    | none => rfl
    | some a =>
      cases Tr.val F n t2 with
      | none => rfl
      | some b => exact jnV_dg o a b
/-- the numbers of what signs make of a drawn form -/
def vC : Option Fo → Int → Int
  | none => fun _ => 0
  | some v => v.2
/-- a row: what signs make of all drawn forms (of degree e each) -/
def rwV (p seed : Int) (d e : Nat) (n : Nat) (t : Tr n) : Int → Int := fun j => vC (Tr.val (drF p seed d (j.toNat / (e + 1))) n t) ((j.toNat % (e + 1) : Nat) : Int)
section TSp
variable {sh : Sh} {I J : Nat → Int → Int} {m : Nat} {p : Int}
theorem t_draws (T : TL sh m) (hI : I (m + 1) 0 = p) (hp : Pp p) {d : Nat} (hd : d ≤ 8) (seed : Int) :
    ∃ I', s_X11_draws m d seed (sh, I, J) = some (sh, I', J) ∧ (∀ k : Nat, k < 12 * (d + 1) → I' (m + 10) k = drV p seed k) ∧ ∀ a : Nat, a ≠ m + 10 → I' a = I a := by
  have hb := hp.b
  unfold s_X11_draws s_X11_draws_l5
  refine ex_g (fun I' => ((sh, I', J) : Me)) (whileO_for (12 * (d + 1))
    (fun i s => ∃ I', s = (drS seed i, (i : Int), ((sh, I', J) : Me)) ∧ (∀ k : Nat, k < i → I' (m + 10) k = drV p seed k) ∧ ∀ a : Nat, a ≠ m + 10 → I' a = I a)
    _ ?_ ?_ _ ?_)
  · rintro i s hi ⟨I1, rfl, a1, a2⟩
    have hI1 : I1 (m + 1) 0 = p := by rw [a2 _ (by omega), hI]
    have hv := anI_b (srI (drS seed (i + 1)) 16) (show (0 : Int) ≤ 32767 by decide) (show (32767 : Int) < 2147483648 by decide)
    have hs : 1103515245 * drS seed i + 12345 = drS seed (i + 1) := rfl
    have er : rmI (anI (srI (drS seed (i + 1)) 16) 32767) p = some (drV p seed i) := by
      rw [rmI_m (by omega) (by omega) (by omega) (by omega), Int.tmod_eq_emod_of_nonneg (by omega)]
      rfl
    refine ⟨(drS seed (i + 1), (i : Int) + 1, (sh, up1 I1 (m + 10) (upz (I1 (m + 10)) i (drV p seed i)), J)), ?_, _, rfl, fun k hk => ?_, fun a ha => ?_⟩
    · unfold s_X11_draws_l5_st
      dsimp only
      simp (disch := omega) only [bsome, t_ck T, t_gI T, t_pI T, t_gJ T, t_pJ T, tR_drawn T, tA_drawn T, tU_drawn T, t_p T, hI1, w32_id (x := 12 * ((d : Int) + 1)), w32_id (x := (i : Int)), if_neg, hs, er, ifT]
    · rw [up1_s]
      by_cases e : k = i
      · rw [e, upz_s]
      · rw [upz_n _ _ (by omega)]
        exact a1 k (by omega)
    · rw [up1_n _ _ ha, a2 a ha]
  · rintro s ⟨I1, rfl, a1, a2⟩
    unfold s_X11_draws_l5_st
    dsimp only
    simp (disch := omega) only [w32_id (x := 12 * ((d : Int) + 1)), w32_id (x := ((12 * (d + 1) : Nat) : Int)), if_pos, ifT]
    exact ⟨_, rfl, I1, rfl, a1, a2⟩
  · exact ⟨I, rfl, fun k hk => by omega, fun _ _ => rfl⟩
/-- what stays while rows are made -/
def SQ (m : Nat) (I I' : Nat → Int → Int) : Prop := (∀ a : Nat, a ≠ m → a ≠ m + 3 → a ≠ m + 4 → a ≠ m + 9 → I' a = I a) ∧ ∀ j : Int, j ≠ 24 → I' m j = I m j
theorem SQ.refl : SQ m I I := ⟨fun _ _ _ _ _ => rfl, fun _ _ => rfl⟩
theorem SQ.trans {I' I2 : Nat → Int → Int} (h : SQ m I I') (h2 : SQ m I' I2) : SQ m I I2 := ⟨fun a x y z w => (h2.1 a x y z w).trans (h.1 a x y z w), fun j x => (h2.2 j x).trans (h.2 j x)⟩
theorem RF.sq {S : Int → Prop} {I' : Nat → Int → Int} (h : RF m S I I') : SQ m I I' := ⟨fun a _ y z _ => h.1 a y z, fun j _ => by rw [h.1 m (by omega) (by omega)]⟩
theorem SQ.hk {I' : Nat → Int → Int} (h : SQ m I I') : HK m I I' := ⟨fun a x y => h.1 a x (by omega) (by omega) (by omega), fun j hj => h.2 j (by omega)⟩
/-- a row is made, or there is none -/
theorem t_rowOf (T : TL sh m) {W : Int → Int} (hw : I (m + 1) = W) (hp : Pp (W 0)) {s : Int} {d : Nat} {seed at_ : Int} {degs : Int} (hs : 0 ≤ s ∧ s < 8) (hd : d ≤ 8) {n : Nat} {t : Tr n} (hS : SgW W s n t) (hdr : ∀ k : Nat, k < 12 * (d + 1) → I (m + 10) k = drV (W 0) seed k) (hat : 0 ≤ at_ ∧ at_ + 492 ≤ 3936) (hdg : -1 ≤ degs ∧ degs ≤ 40) :
    (∀ e, Tr.dg d n t = some e → (degs = -1 ∨ degs = e) → ∃ I', s_X11_rowOf m s d at_ degs (sh, I, J) = some (1, (sh, I', J)) ∧ SQ m I I' ∧ I' (m + 3) 0 = e ∧ I' m 24 = 12 * ((e : Int) + 1) ∧ (∀ j : Int, 0 ≤ j → j < 12 * ((e : Int) + 1) → I' (m + 9) (at_ + j) = rwV (W 0) seed d e n t j % W 0) ∧ ∀ j : Int, j < at_ → I' (m + 9) j = I (m + 9) j) ∧
    ((Tr.dg d n t = none ∨ ∃ e, Tr.dg d n t = some e ∧ degs ≠ -1 ∧ degs ≠ e) → ∃ I', s_X11_rowOf m s d at_ degs (sh, I, J) = some (0, (sh, I', J)) ∧ SQ m I I') := by
  -- the drawn form is laid on row F
  have lay : ∀ (x : Nat) (I1 : Nat → Int → Int), x < 12 → SQ m I I1 → ∃ I', s_X11_rowOf_l3_st m s d at_ degs x (sh, I1, J) = s_X11_rowOf_b55 m s d at_ degs x (sh, I', J) ∧ RW I' m (W 0) 44 d (drF (W 0) seed d x).2 ∧ RF m (fun q => q = 44) I1 I' := by
    intro x I1 hx q1
    obtain ⟨I2, hI2⟩ : ∃ I2, up1 I1 (m + 3) (upz (I1 (m + 3)) 44 d) = I2 := ⟨_, rfl⟩
    have h4 : I2 (m + 4) = I1 (m + 4) := by rw [← hI2, up1_n _ _ (by omega)]
    have h3 : I2 (m + 3) = upz (I1 (m + 3)) 44 d := by rw [← hI2, up1_s]
    have h10 : I2 (m + 10) = I (m + 10) := by rw [← hI2, up1_n _ _ (by omega), q1.1 _ (by omega) (by omega) (by omega) (by omega)]
    have f2 : RF m (fun q => q = 44) I1 I2 := by
      refine ⟨fun a x y => by rw [← hI2, up1_n _ _ x], fun q x y z => ⟨by rw [h3, upz_n _ _ z], fun k u v => by rw [h4]⟩⟩
    have key : ∀ (k i : Nat) (I3 : Nat → Int → Int), i + k = d + 1 → I3 (m + 3) = I2 (m + 3) → (∀ j : Int, 0 ≤ j → j < i → I3 (m + 4) (41 * 44 + j) = drV (W 0) seed (x * (d + 1) + j.toNat)) → RF m (fun q => q = 44) I1 I3 → (∀ a : Nat, a ≠ m + 4 → I3 a = I2 a) →
        ∃ I', s_X11_rowOf_l21 m s d at_ degs x i (sh, I3, J) = s_X11_rowOf_b55 m s d at_ degs x (sh, I', J) ∧ RW I' m (W 0) 44 d (drF (W 0) seed d x).2 ∧ RF m (fun q => q = 44) I1 I' := by
      intro k
      induction k with
      | zero =>
        intro i I3 hi g1 g2 g3 g4
        refine ⟨I3, ?_, ⟨by rw [g1, h3, upz_s], fun j a b => ?_⟩, g3⟩
        · rw [e_X11_rowOf_l21]
          unfold s_X11_rowOf_l21_st
          simp (disch := omega) only [w32_id (x := (d : Int)), w32_id (x := (i : Int)), if_pos, ifT]
          cases s_X11_rowOf_b55 m s d at_ degs x (sh, I3, J) <;> rfl
        · rw [g2 j a (by omega)]
          show _ = drV (W 0) seed (x * (d + 1) + j.toNat) % W 0
          unfold drV
          rw [emod_emod_]
      | succ k ih =>
        intro i I3 hi g1 g2 g3 g4
        have o1 : I3 (m + 10) ((x : Int) * ((d : Int) + 1) + i) = drV (W 0) seed (x * (d + 1) + i) := by
          rw [g4 _ (by omega), h10]
          have := hdr (x * (d + 1) + i) (by
            have : x * (d + 1) ≤ 11 * (d + 1) := Nat.mul_le_mul_right _ (by omega)
            omega)
          rw [← this]
          congr 1
        have hx0 : 0 ≤ (x : Int) * ((d : Int) + 1) := Int.mul_nonneg (by omega) (by omega)
        have hx1 : (x : Int) * ((d : Int) + 1) ≤ 11 * 9 := Int.mul_le_mul (by omega) (by omega) (by omega) (by omega)
        obtain ⟨I4, e4, k1, k2, k3, k4⟩ := t_putR (I := I3) (J := J) T (r := 44) (k := i) (v := drV (W 0) seed (x * (d + 1) + i)) (by omega) (by omega) (by omega) (by omega)
        have i4 : ∀ a : Nat, a ≠ m + 4 → I4 a = I3 a := by
          intro a ha
          by_cases e : a = m + 3
          · rw [e, k2]
          · exact k4.1 a e ha
        obtain ⟨I5, e5, r5, f5⟩ := ih (i + 1) I4 (by omega) (by rw [k2, g1]) (fun j a b => by
          by_cases e : j = i
          · rw [e, k1, Int.toNat_natCast]
          · rw [k3 _ (by omega)]
            exact g2 j a (by omega)) (g3.trans k4) (fun a ha => by rw [i4 a ha, g4 a ha])
        refine ⟨I5, ?_, r5, f5⟩
        rw [← e5, e_X11_rowOf_l21]
        unfold s_X11_rowOf_l21_st
        simp (disch := omega) only [bsome, t_ck T, t_gI T, t_pI T, t_gJ T, t_pJ T, tR_drawn T, tA_drawn T, tU_drawn T, w32_id (x := (d : Int)), w32_id (x := (i : Int)), if_neg, o1, e4, ifT]
        rfl
    obtain ⟨I', e, r, f⟩ := key (d + 1) 0 I2 (by omega) rfl (fun j a b => absurd b (by omega)) f2 (fun _ _ => rfl)
    refine ⟨I', ?_, r, f⟩
    rw [← e]
    unfold s_X11_rowOf_l3_st
    simp (disch := omega) only [bsome, t_ck T, t_gI T, t_pI T, t_gJ T, t_pJ T, tR_deg T, tA_deg T, tU_deg T, w32_id (x := 12), w32_id (x := (x : Int)), if_neg, hI2, ifT]
    rfl
  -- what is made of it
  have mk : ∀ (x : Nat) (I1 : Nat → Int → Int), x < 12 → SQ m I I1 →
      (∀ v, Tr.val (drF (W 0) seed d x) n t = some v → ∃ I', s_X11_rowOf_l3_st m s d at_ degs x (sh, I1, J) = (if degs = -1 then s_X11_rowOf_b82 m s d at_ degs x (sh, I', J) else if (v.1 : Int) = degs then s_X11_rowOf_b82 m s d at_ degs x (sh, I', J) else some (.inr (0, (sh, I', J)))) ∧ RW I' m (W 0) 0 v.1 v.2 ∧ SQ m I I' ∧ I' (m + 9) = I1 (m + 9)) ∧
      (Tr.val (drF (W 0) seed d x) n t = none → ∃ I', s_X11_rowOf_l3_st m s d at_ degs x (sh, I1, J) = some (.inr (0, (sh, I', J))) ∧ SQ m I I') := by
    intro x I1 hx q1
    obtain ⟨I2, e2, r2, f2⟩ := lay x I1 hx q1
    have hw2 : I2 (m + 1) = W := by rw [f2.w, q1.1 _ (by omega) (by omega) (by omega) (by omega), hw]
    obtain ⟨g1, g2⟩ := t_makes (J := J) T (p := W 0) (by rw [hw2]) hp hs (F := drF (W 0) seed d x) (show d ≤ 40 by omega) (by rw [hw2]; exact hS) r2
    refine ⟨fun v hv => ?_, fun hv => ?_⟩
    · obtain ⟨I3, e3, r3, f3⟩ := g1 v hv
      have hvd := Tr.val_d (F := drF (W 0) seed d x) (show d ≤ 40 by omega) n t v hv
      refine ⟨I3, ?_, r3, (q1.trans f2.sq).trans f3.sq, by rw [f3.1 _ (by omega) (by omega), f2.1 _ (by omega) (by omega)]⟩
      rw [e2]
      unfold s_X11_rowOf_b55
      simp (disch := omega) only [bsome, t_ck T, t_gI T, t_pI T, t_gJ T, t_pJ T, tR_deg T, tA_deg T, tU_deg T, e3, w32_id (x := 1), w32_id (x := -1), w32_id (x := degs), if_neg, r3.1, w32_id (x := (v.1 : Int)), ifT]
    · obtain ⟨I3, e3, f3⟩ := g2 hv
      refine ⟨I3, ?_, (q1.trans f2.sq).trans f3.sq⟩
      rw [e2]
      unfold s_X11_rowOf_b55
      simp (disch := omega) only [t_ck T, bsome, e3, w32_id (x := 0), if_pos, ifT]
  have hdv : ∀ x, (Tr.val (drF (W 0) seed d x) n t).map (fun v : Fo => v.1) = Tr.dg d n t := fun x => Tr.val_dg (drF (W 0) seed d x) n t
  refine ⟨fun e he hde => ?_, fun hno => ?_⟩
  · have hval : ∀ x, ∃ v, Tr.val (drF (W 0) seed d x) n t = some v ∧ v.1 = e := by
      intro x
      have h1 := hdv x
      rw [he] at h1
      obtain ⟨v, h2, h3⟩ := ms_ h1
      exact ⟨v, h2, h3⟩
    have he40 : e ≤ 40 := by
      obtain ⟨v, h2, h3⟩ := hval 0
      rw [← h3]
      exact Tr.val_d (F := drF (W 0) seed d 0) (show d ≤ 40 by omega) n t v h2
    have key : ∀ (k x : Nat) (I1 : Nat → Int → Int), x + k = 12 → SQ m I I1 → (x = 0 ∨ (I1 (m + 3) 0 = e ∧ I1 m 24 = 12 * ((e : Int) + 1))) → (∀ j : Int, 0 ≤ j → j < (x : Int) * ((e : Int) + 1) → I1 (m + 9) (at_ + j) = rwV (W 0) seed d e n t j % W 0) → (∀ j : Int, j < at_ → I1 (m + 9) j = I (m + 9) j) →
        ∃ I', s_X11_rowOf_l3 m s d at_ degs x (sh, I1, J) = some (1, (sh, I', J)) ∧ SQ m I I' ∧ I' (m + 3) 0 = e ∧ I' m 24 = 12 * ((e : Int) + 1) ∧ (∀ j : Int, 0 ≤ j → j < 12 * ((e : Int) + 1) → I' (m + 9) (at_ + j) = rwV (W 0) seed d e n t j % W 0) ∧ ∀ j : Int, j < at_ → I' (m + 9) j = I (m + 9) j := by
      intro k
      induction k with
      | zero =>
        intro x I1 hx q1 h0 h1 h2
        have : x = 12 := by omega
        subst this
        have h3 : I1 (m + 3) 0 = e ∧ I1 m 24 = 12 * ((e : Int) + 1) := by
          rcases h0 with h | h
          · omega
          · exact h
        refine ⟨I1, ?_, q1, h3.1, h3.2, fun j a b => h1 j a (by omega), h2⟩
        rw [e_X11_rowOf_l3]
        unfold s_X11_rowOf_l3_st
        simp (disch := omega) only [w32_id, if_pos, ifT]
        rfl
      | succ k ih =>
        intro x I1 hx q1 h0 h1 h2
        obtain ⟨v, hv1, hv2⟩ := hval x
        obtain ⟨I2, e2, r2, q2, g2⟩ := (mk x I1 (by omega) q1).1 v hv1
        rw [hv2] at r2
        have hb82 : s_X11_rowOf_l3_st m s d at_ degs x (sh, I1, J) = s_X11_rowOf_b82 m s d at_ degs x (sh, I2, J) := by
          rw [e2]
          by_cases h9 : degs = -1
          · rw [if_pos h9]
          · rw [if_neg h9, if_pos (by rw [hv2]; omega)]
        obtain ⟨I3, hI3⟩ : ∃ I3, up1 I2 m (upz (I2 m) 24 (12 * ((e : Int) + 1))) = I3 := ⟨_, rfl⟩
        have o3 : ∀ a : Nat, a ≠ m → I3 a = I2 a := fun a h => by rw [← hI3, up1_n _ _ h]
        have q3 : SQ m I2 I3 := ⟨fun a h _ _ _ => o3 a h, fun j hj => by rw [← hI3, up1_s, upz_n _ _ hj]⟩
        have xe : (x : Int) * ((e : Int) + 1) ≤ 11 * ((e : Int) + 1) := Int.mul_le_mul_of_nonneg_right (by omega) (by omega)
        have xe0 : 0 ≤ (x : Int) * ((e : Int) + 1) := Int.mul_nonneg (by omega) (by omega)
        obtain ⟨B, hB⟩ : ∃ B : Int, (x : Int) * ((e : Int) + 1) = B := ⟨_, rfl⟩
        have hBn : ((x * (e + 1) : Nat) : Int) = B := by rw [← hB, Int.natCast_mul, Int.natCast_add]; rfl
        rw [hB] at h1 xe xe0
        have hl : s_X11_rowOf_l100 m s d at_ degs x 0 (sh, I3, J) = some (.inl ((x : Int) + 1, (sh, up1 I3 (m + 9) (wr (I3 (m + 9)) (at_ + B) (e + 1) (fun i => v.2 i % W 0)), J))) := by
          unfold s_X11_rowOf_l100
          refine arr_loop (f := fun z : Int × Me => s_X11_rowOf_l100_st m s d at_ degs x z.1 z.2) (sh := sh) (I := I3) (J := J) (m + 9) (at_ + B) 0 (e + 1) (fun i => v.2 i % W 0) ?_ ?_
          · intro i hi
            have o1 : up1 I3 (m + 9) (wr (I3 (m + 9)) (at_ + B) i (fun i => v.2 i % W 0)) (m + 3) 0 = e := by rw [up1_n _ _ (by omega), o3 _ (by omega), r2.1]
            have o2 : up1 I3 (m + 9) (wr (I3 (m + 9)) (at_ + B) i (fun i => v.2 i % W 0)) (m + 4) (41 * 0 + i) = v.2 i % W 0 := by rw [up1_n _ _ (by omega), o3 _ (by omega), r2.2 i (by omega) (by omega)]
            unfold s_X11_rowOf_l100_st
            dsimp only
            rw [Int.zero_add]
            simp (disch := omega) only [bsome, t_ck T, t_gI T, t_pI T, t_gJ T, t_pJ T, tR_deg T, tA_deg T, tU_deg T, o1, hB]
            simp (disch := omega) only [bsome, t_ck T, t_gI T, t_pI T, t_gJ T, t_pJ T, tR_rows T, tA_rows T, tU_rows T, w32_id (x := (e : Int)), w32_id (x := (i : Int)), if_neg, t_of T, o2, up1_s, up1_up1, ifT]
          · have o1 : up1 I3 (m + 9) (wr (I3 (m + 9)) (at_ + B) (e + 1) (fun i => v.2 i % W 0)) (m + 3) 0 = e := by rw [up1_n _ _ (by omega), o3 _ (by omega), r2.1]
            unfold s_X11_rowOf_l100_st
            dsimp only
            simp (disch := omega) only [bsome, t_ck T, t_gI T, t_pI T, t_gJ T, t_pJ T, tR_deg T, tA_deg T, tU_deg T, o1, w32_id, if_pos, ifT]
        obtain ⟨I4, hI4⟩ : ∃ I4, up1 I3 (m + 9) (wr (I3 (m + 9)) (at_ + B) (e + 1) (fun i => v.2 i % W 0)) = I4 := ⟨_, rfl⟩
        rw [hI4] at hl
        have o4 : ∀ a : Nat, a ≠ m + 9 → I4 a = I3 a := fun a h => by rw [← hI4, up1_n _ _ h]
        have q4 : SQ m I I4 := (q2.trans q3).trans ⟨fun a _ _ _ h => o4 a h, fun j _ => by rw [o4 _ (by omega)]⟩
        have r9 : ∀ j : Int, I4 (m + 9) j = wr (I1 (m + 9)) (at_ + B) (e + 1) (fun i => v.2 i % W 0) j := fun j => by rw [← hI4, up1_s, o3 _ (by omega), g2]
        have hx1 : ((x + 1 : Nat) : Int) * ((e : Int) + 1) = B + ((e : Int) + 1) := by
          rw [← hB, Int.natCast_add, Int.add_mul]
          show _ + 1 * ((e : Int) + 1) = _
          rw [Int.one_mul]
        obtain ⟨I5, e5, q5, s5⟩ := ih (x + 1) I4 (by omega) q4 (Or.inr ⟨by rw [o4 _ (by omega), o3 _ (by omega), r2.1], by rw [o4 _ (by omega), ← hI3, up1_s, upz_s]⟩) (fun j a b => by
          rw [hx1] at b
          rw [r9]
          by_cases h9 : j < B
          · rw [wr_out (by omega)]
            exact h1 j a h9
          · rw [wr_in (by omega) (by omega)]
            obtain ⟨q, hq⟩ : ∃ q : Nat, j = B + q := ⟨(j - B).toNat, by omega⟩
            subst hq
            rw [show (at_ + (B + (q : Int)) - (at_ + B)).toNat = q by omega]
            unfold rwV
            have hq2 : (B + (q : Int)).toNat = x * (e + 1) + q := by omega
            have hqe : q < e + 1 := by omega
            rw [hq2, show (x * (e + 1) + q) / (e + 1) = x by
              rw [Nat.mul_comm, Nat.mul_add_div (by omega), Nat.div_eq_of_lt hqe, Nat.add_zero], show (x * (e + 1) + q) % (e + 1) = q by
              rw [Nat.mul_comm, Nat.mul_add_mod, Nat.mod_eq_of_lt hqe], hv1]
            rfl) (fun j hj => by rw [r9, wr_out (by omega)]; exact h2 j hj)
        refine ⟨I5, ?_, q5, s5⟩
        rw [e_X11_rowOf_l3, hb82]
        unfold s_X11_rowOf_b82
        simp (disch := omega) only [bsome, t_ck T, t_gI T, t_pI T, t_gJ T, t_pJ T, tR_deg T, tA_deg T, tU_deg T, r2.1, hI3, hl]
        exact e5
    exact key 12 0 I (by omega) SQ.refl (Or.inl rfl) (fun j a b => by
      rw [show ((0 : Nat) : Int) = 0 from rfl, Int.zero_mul] at b
      omega) (fun _ _ => rfl)
  · unfold s_X11_rowOf
    rw [e_X11_rowOf_l3]
    rcases hno with h | ⟨e, he, h1, h2⟩
    · have h9 := hdv 0
      rw [h] at h9
      obtain ⟨I', e1, q1⟩ := (mk 0 I (by omega) SQ.refl).2 (map_n h9)
      refine ⟨I', ?_, q1⟩
      have e1' : s_X11_rowOf_l3_st m s d at_ degs 0 (sh, I, J) = some (.inr (0, (sh, I', J))) := e1
      rw [e1']
      rfl
    · have h9 := hdv 0
      rw [he] at h9
      obtain ⟨v, hv1, hv2⟩ := ms_ h9
      obtain ⟨I', e1, r1, q1, -⟩ := (mk 0 I (by omega) SQ.refl).1 v hv1
      rw [if_neg h1, if_neg (by rw [hv2]; omega)] at e1
      refine ⟨I', ?_, q1⟩
      have e1' : s_X11_rowOf_l3_st m s d at_ degs 0 (sh, I, J) = some (.inr (0, (sh, I', J))) := e1
      rw [e1']
      rfl
end TSp
