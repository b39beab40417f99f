/-! the twin: sums of powers, the search -/
set_option maxRecDepth 100000
def bn1 (p : Int) (n : Nat) (c : Int → Int) (t : Int) : Option Int := if lsB p n c t = 1 then some (lsV p n c t) else none
def bn2 (p : Int) (n : Nat) (c : Int → Int) (t u : Int) : Option (Int × Int) := fnd (fun v => (bn1 p n (lsP p n c t v) u).map fun b => ((v : Int), b)) (p - 1).toNat 1
def bn3 (p : Int) (n : Nat) (c : Int → Int) (t u w : Int) : Option (Int × Int × Int) := fnd (fun v => (bn2 p n (lsP p n c t v) u w).map fun r => ((v : Int), r)) (p - 1).toNat 1
def ad1 (p : Int) (n : Nat) (c : Int → Int) : Option (Int × Int) := fnd (fun a => (bn1 p n c a).map fun b => ((a : Int), b)) (p + 1).toNat 0
def ad2b (p : Int) (n : Nat) (c : Int → Int) (a : Nat) : Option ((Int × Int) × (Int × Int)) := fnd (fun b => (bn2 p n c a b).map fun r => (((a : Int), (b : Int)), r)) (p - a).toNat (a + 1)
def ad2 (p : Int) (n : Nat) (c : Int → Int) : Option ((Int × Int) × (Int × Int)) := fnd (ad2b p n c) (p + 1).toNat 0
def ad3c (p : Int) (n : Nat) (c : Int → Int) (a b : Nat) : Option ((Int × Int × Int) × (Int × Int × Int)) := fnd (fun d => (bn3 p n c a b d).map fun r => (((a : Int), (b : Int), (d : Int)), r)) (p - b).toNat (b + 1)
def ad3b (p : Int) (n : Nat) (c : Int → Int) (a : Nat) : Option ((Int × Int × Int) × (Int × Int × Int)) := fnd (ad3c p n c a) (p - a).toNat (a + 1)
def ad3 (p : Int) (n : Nat) (c : Int → Int) : Option ((Int × Int × Int) × (Int × Int × Int)) := fnd (ad3b p n c) (p + 1).toNat 0
theorem bn1_n {p : Int} {n : Nat} {c : Int → Int} {t : Int} (h : lsB p n c t = 0) : bn1 p n c t = none := if_neg (by rw [h]; decide)
theorem bn1_s {p : Int} {n : Nat} {c : Int → Int} {t : Int} (h : lsB p n c t = 1) : bn1 p n c t = some (lsV p n c t) := if_pos h
theorem map_n {α β : Type} {x : Option α} {f : α → β} (h : x.map f = none) : x = none := by
  cases x with
  | none => rfl
  | some a => cases h
/-- the state of the search -/
def PQ (sh : Sh) (I J : Nat → Int → Int) (m : Nat) (p : Int) (F : Fo) (A : (Int → Int) → (Int → Int) → Prop) (μ : Me) : Prop :=
  ∃ I' : Nat → Int → Int, μ = (sh, I', J) ∧ (∀ a : Nat, a ≠ m + 3 → a ≠ m + 4 → a ≠ m + 13 → a ≠ m + 14 → I' a = I a) ∧ RW I' m p 40 F.1 F.2 ∧ A (I' (m + 13)) (I' (m + 14))
theorem PQ.mono {sh : Sh} {I J : Nat → Int → Int} {m : Nat} {p : Int} {F : Fo} {A B : (Int → Int) → (Int → Int) → Prop} {μ : Me} (h : PQ sh I J m p F A μ) (hAB : ∀ s f, A s f → B s f) : PQ sh I J m p F B μ := by
  obtain ⟨I', h1, h2, h3, h4⟩ := h
  exact ⟨I', h1, h2, h3, hAB _ _ h4⟩
section TPq
variable {sh : Sh} {I J : Nat → Int → Int} {m : Nat} {p : Int} {F : Fo}
/-- a last number is tried -/
theorem q_isLast (T : TL sh m) (hI : I (m + 1) 0 = p) (hp : Pp p) (hF : F.1 ≤ 8) (hP : PW I m p F.1) (many : Nat) (hm : many ≤ 2) {sp fa : Int → Int} {I1 : Nat → Int → Int}
    (q1 : ∀ a : Nat, a ≠ m + 3 → a ≠ m + 4 → a ≠ m + 13 → a ≠ m + 14 → I1 a = I a) (q2 : RW I1 m p 40 F.1 F.2) (q3 : I1 (m + 13) = sp) (q4 : I1 (m + 14) = fa)
    (hsp : ∀ j : Int, 0 ≤ j → j ≤ many → 0 ≤ sp j ∧ sp j ≤ p) (hfa : ∀ j : Int, 0 ≤ j → j < many → 0 ≤ fa j ∧ fa j < p) :
    ∃ I', s_X11_isLast m many (sh, I1, J) = some (lsB p F.1 (cN p F.1 F.2 sp fa many) (sp many), (sh, I', J)) ∧ PQ sh I J m p F (fun s f => s = sp ∧ (∀ j : Int, j ≠ many → f j = fa j) ∧ f many = lsV p F.1 (cN p F.1 F.2 sp fa many) (sp many)) (sh, I', J) := by
  have hI1 : I1 (m + 1) 0 = p := by rw [q1 _ (by omega) (by omega) (by omega) (by omega), hI]
  have hP1 : PW I1 m p F.1 := by
    intro t k a1 a2 a3 a4
    rw [q1 _ (by omega) (by omega) (by omega) (by omega)]
    exact hP t k a1 a2 a3 a4
  obtain ⟨I', h1, h2, h3, h4, h5⟩ := t_isLast (J := J) T hI1 hp hF hm q2 hP1 (by rw [q3]; exact hsp) (by rw [q4]; exact hfa)
  rw [q3, q4] at h1
  rw [q4] at h4
  rw [q3, q4] at h5
  refine ⟨I', h1, I', rfl, fun a x y z w => by rw [h2 a x y w, q1 a x y z w], h3, by rw [h2 _ (by omega) (by omega) (by omega), q3], h4, h5⟩
theorem q_isPair1 (T : TL sh m) (hI : I (m + 1) 0 = p) (hp : Pp p) (hF : F.1 ≤ 8) (hP : PW I m p F.1) {a b : Int} (ha : 0 ≤ a ∧ a ≤ p) (hb : 0 ≤ b ∧ b ≤ p) {μ : Me} (hq : PQ sh I J m p F (fun s _ => s 0 = a ∧ s 1 = b) μ) :
    (bn2 p F.1 F.2 a b = none → ∃ μ', s_X11_isPair m 1 μ = some (0, μ') ∧ PQ sh I J m p F (fun s _ => s 0 = a ∧ s 1 = b) μ') ∧
    ∀ r, bn2 p F.1 F.2 a b = some r → ∃ μ', s_X11_isPair m 1 μ = some (1, μ') ∧ PQ sh I J m p F (fun s f => (s 0 = a ∧ s 1 = b) ∧ f 0 = r.1 ∧ f 1 = r.2) μ' := by
  have hpb := hp.b
  unfold s_X11_isPair s_X11_isPair_l2
  have h := fnd_loop (f := fun s : Int × Me => s_X11_isPair_l2_st m 1 s.1 s.2) (fun v => (bn1 p F.1 (lsP p F.1 F.2 a v) b).map fun b => ((v : Int), b)) p.toNat (PQ sh I J m p F (fun s _ => s 0 = a ∧ s 1 = b))
    (fun r x => x.1 = 1 ∧ PQ sh I J m p F (fun s f => (s 0 = a ∧ s 1 = b) ∧ f 0 = r.1 ∧ f 1 = r.2) x.2) (fun x => x.1 = 0 ∧ PQ sh I J m p F (fun s _ => s 0 = a ∧ s 1 = b) x.2) ?_ ?_ (p - 1).toNat 1 μ (by omega) hq
  · refine ⟨fun h1 => ?_, fun r h1 => ?_⟩
    · obtain ⟨⟨x1, x2⟩, e, rfl, q⟩ := h.1 h1
      exact ⟨x2, e, q⟩
    · obtain ⟨⟨x1, x2⟩, e, rfl, q⟩ := h.2 r h1
      exact ⟨x2, e, q⟩
  · rintro v μ hv ⟨I1, rfl, q1, q2, q3⟩
    have hI1 : I1 (m + 1) 0 = p := by rw [q1 _ (by omega) (by omega) (by omega) (by omega), hI]
    obtain ⟨I2, hI2⟩ : ∃ I2, up1 I1 (m + 14) (upz (I1 (m + 14)) 0 v) = I2 := ⟨_, rfl⟩
    have s2 : I2 (m + 13) = I1 (m + 13) := by rw [← hI2, up1_n _ _ (by omega)]
    have f2 : I2 (m + 14) = upz (I1 (m + 14)) 0 v := by rw [← hI2, up1_s]
    obtain ⟨I', e1, e2⟩ := q_isLast (I := I) (J := J) T hI hp hF hP 1 (by omega) (I1 := I2) (fun a x y z w => by rw [← hI2, up1_n _ _ w]; exact q1 a x y z w) (q2.ext (by rw [← hI2, up1_n _ _ (by omega)]) (by rw [← hI2, up1_n _ _ (by omega)])) s2 f2
      (fun j j0 j1 => by
        have : j = 0 ∨ j = 1 := by omega
        rcases this with rfl | rfl
        · rw [q3.1]; exact ha
        · rw [q3.2]; exact hb)
      (fun j j0 j1 => by
        have : j = 0 := by omega
        subst this
        rw [upz_s]
        omega)
    have hc1 : cN p F.1 F.2 (I1 (m + 13)) (upz (I1 (m + 14)) 0 v) 1 = lsP p F.1 F.2 a v := by
      show lsP p F.1 F.2 (I1 (m + 13) 0) (upz (I1 (m + 14)) 0 v 0) = _
      rw [q3.1, upz_s]
    have hsp1 : I1 (m + 13) ((1 : Nat) : Int) = b := q3.2
    rw [hc1, hsp1] at e1 e2
    have st : s_X11_isPair_l2_st m 1 v (sh, I1, J) = some (if lsB p F.1 (lsP p F.1 F.2 a v) b = 0 then .inl ((v : Int) + 1, (sh, I', J)) else .inr (1, (sh, I', J))) := by
      unfold s_X11_isPair_l2_st
      have e1' : s_X11_isLast m 1 (sh, I2, J) = some (lsB p F.1 (lsP p F.1 F.2 a v) b, (sh, I', J)) := e1
      simp (disch := omega) only [bsome, t_ck T, t_gI T, t_pI T, t_gJ T, t_pJ T, tR_factor T, tA_factor T, tU_factor T, t_p T, hI1, w32_id (x := p), w32_id (x := (v : Int)), if_neg, show (1 : Int) - 1 = 0 from rfl, hI2, e1', ifT]
      rcases lsB_b p F.1 (lsP p F.1 F.2 a v) b with h9 | h9
      · rw [h9]; rfl
      · rw [h9]; rfl
    rcases lsB_b p F.1 (lsP p F.1 F.2 a v) b with h9 | h9
    · rw [h9, if_pos rfl] at st
      refine ⟨fun _ => ⟨_, e2.mono (fun s f g => by rw [g.1]; exact q3), st⟩, fun r hr => ?_⟩
      rw [bn1_n h9] at hr
      cases hr
    · rw [h9, if_neg (by decide)] at st
      refine ⟨fun hr => ?_, fun r hr => ⟨_, st, rfl, ?_⟩⟩
      · rw [bn1_s h9] at hr
        cases hr
      · rw [bn1_s h9] at hr
        rw [← Option.some.inj hr]
        refine e2.mono (fun s f g => ⟨by rw [g.1]; exact q3, ?_, g.2.2⟩)
        rw [g.2.1 0 (by decide), upz_s]
  · rintro μ ⟨I1, rfl, q1, q2, q3⟩
    have hI1 : I1 (m + 1) 0 = p := by rw [q1 _ (by omega) (by omega) (by omega) (by omega), hI]
    unfold s_X11_isPair_l2_st
    dsimp only
    simp (disch := omega) only [t_ck T, bsome, t_p T, hI1, w32_id, if_pos, ifT]
    exact ⟨_, rfl, rfl, I1, rfl, q1, q2, q3⟩
theorem q_isPair2 (T : TL sh m) (hI : I (m + 1) 0 = p) (hp : Pp p) (hF : F.1 ≤ 8) (hP : PW I m p F.1) {a b d u : Int} (ha : 0 ≤ a ∧ a ≤ p) (hb : 0 ≤ b ∧ b ≤ p) (hd : 0 ≤ d ∧ d ≤ p) (hu : 0 ≤ u ∧ u < p) {μ : Me} (hq : PQ sh I J m p F (fun s f => (s 0 = a ∧ s 1 = b ∧ s 2 = d) ∧ f 0 = u) μ) :
    (bn2 p F.1 (lsP p F.1 F.2 a u) b d = none → ∃ μ', s_X11_isPair m 2 μ = some (0, μ') ∧ PQ sh I J m p F (fun s f => (s 0 = a ∧ s 1 = b ∧ s 2 = d) ∧ f 0 = u) μ') ∧
    ∀ r, bn2 p F.1 (lsP p F.1 F.2 a u) b d = some r → ∃ μ', s_X11_isPair m 2 μ = some (1, μ') ∧ PQ sh I J m p F (fun s f => (s 0 = a ∧ s 1 = b ∧ s 2 = d) ∧ f 0 = u ∧ f 1 = r.1 ∧ f 2 = r.2) μ' := by
  have hpb := hp.b
  unfold s_X11_isPair s_X11_isPair_l2
  have h := fnd_loop (f := fun s : Int × Me => s_X11_isPair_l2_st m 2 s.1 s.2) (fun v => (bn1 p F.1 (lsP p F.1 (lsP p F.1 F.2 a u) b v) d).map fun b => ((v : Int), b)) p.toNat (PQ sh I J m p F (fun s f => (s 0 = a ∧ s 1 = b ∧ s 2 = d) ∧ f 0 = u))
    (fun r x => x.1 = 1 ∧ PQ sh I J m p F (fun s f => (s 0 = a ∧ s 1 = b ∧ s 2 = d) ∧ f 0 = u ∧ f 1 = r.1 ∧ f 2 = r.2) x.2) (fun x => x.1 = 0 ∧ PQ sh I J m p F (fun s f => (s 0 = a ∧ s 1 = b ∧ s 2 = d) ∧ f 0 = u) x.2) ?_ ?_ (p - 1).toNat 1 μ (by omega) hq
  · refine ⟨fun h1 => ?_, fun r h1 => ?_⟩
    · obtain ⟨⟨x1, x2⟩, e, rfl, q⟩ := h.1 h1
      exact ⟨x2, e, q⟩
    · obtain ⟨⟨x1, x2⟩, e, rfl, q⟩ := h.2 r h1
      exact ⟨x2, e, q⟩
  · rintro v μ hv ⟨I1, rfl, q1, q2, q3, q4⟩
    have hI1 : I1 (m + 1) 0 = p := by rw [q1 _ (by omega) (by omega) (by omega) (by omega), hI]
    obtain ⟨I2, hI2⟩ : ∃ I2, up1 I1 (m + 14) (upz (I1 (m + 14)) 1 v) = I2 := ⟨_, rfl⟩
    have s2 : I2 (m + 13) = I1 (m + 13) := by rw [← hI2, up1_n _ _ (by omega)]
    have f2 : I2 (m + 14) = upz (I1 (m + 14)) 1 v := by rw [← hI2, up1_s]
    obtain ⟨I', e1, e2⟩ := q_isLast (I := I) (J := J) T hI hp hF hP 2 (by omega) (I1 := I2) (fun a x y z w => by rw [← hI2, up1_n _ _ w]; exact q1 a x y z w) (q2.ext (by rw [← hI2, up1_n _ _ (by omega)]) (by rw [← hI2, up1_n _ _ (by omega)])) s2 f2
      (fun j j0 j1 => by
        have : j = 0 ∨ j = 1 ∨ j = 2 := by omega
        rcases this with rfl | rfl | rfl
        · rw [q3.1]; exact ha
        · rw [q3.2.1]; exact hb
        · rw [q3.2.2]; exact hd)
      (fun j j0 j1 => by
        have : j = 0 ∨ j = 1 := by omega
        rcases this with rfl | rfl
        · rw [upz_n _ _ (by decide), q4]
          exact hu
        · rw [upz_s]
          omega)
    have hc1 : cN p F.1 F.2 (I1 (m + 13)) (upz (I1 (m + 14)) 1 v) 2 = lsP p F.1 (lsP p F.1 F.2 a u) b v := by
      show lsP p F.1 (lsP p F.1 F.2 (I1 (m + 13) 0) (upz (I1 (m + 14)) 1 v 0)) (I1 (m + 13) 1) (upz (I1 (m + 14)) 1 v 1) = _
      rw [q3.1, q3.2.1, upz_s, upz_n _ _ (by decide), q4]
    have hsp1 : I1 (m + 13) ((2 : Nat) : Int) = d := q3.2.2
    rw [hc1, hsp1] at e1 e2
    obtain ⟨C, hC⟩ : ∃ C, lsP p F.1 (lsP p F.1 F.2 a u) b v = C := ⟨_, rfl⟩
    rw [hC] at e1 e2 ⊢
    have st : s_X11_isPair_l2_st m 2 v (sh, I1, J) = some (if lsB p F.1 C d = 0 then .inl ((v : Int) + 1, (sh, I', J)) else .inr (1, (sh, I', J))) := by
      unfold s_X11_isPair_l2_st
      have e1' : s_X11_isLast m 2 (sh, I2, J) = some (lsB p F.1 C d, (sh, I', J)) := e1
      simp (disch := omega) only [bsome, t_ck T, t_gI T, t_pI T, t_gJ T, t_pJ T, tR_factor T, tA_factor T, tU_factor T, t_p T, hI1, w32_id (x := p), w32_id (x := (v : Int)), if_neg, show (2 : Int) - 1 = 1 from rfl, hI2, e1', ifT]
      rcases lsB_b p F.1 C d with h9 | h9
      · rw [h9]; rfl
      · rw [h9]; rfl
    rcases lsB_b p F.1 C d with h9 | h9
    · rw [h9, if_pos rfl] at st
      refine ⟨fun _ => ⟨_, e2.mono (fun s f g => ⟨by rw [g.1]; exact q3, by rw [g.2.1 0 (by decide), upz_n _ _ (by decide), q4]⟩), st⟩, fun r hr => ?_⟩
      rw [bn1_n h9] at hr
      cases hr
    · rw [h9, if_neg (by decide)] at st
      refine ⟨fun hr => ?_, fun r hr => ⟨_, st, rfl, ?_⟩⟩
      · rw [bn1_s h9] at hr
        cases hr
      · rw [bn1_s h9] at hr
        rw [← Option.some.inj hr]
        refine e2.mono (fun s f g => ⟨by rw [g.1]; exact q3, by rw [g.2.1 0 (by decide), upz_n _ _ (by decide), q4], ?_, g.2.2⟩)
        rw [g.2.1 1 (by decide), upz_s]
  · rintro μ ⟨I1, rfl, q1, q2, q3⟩
    have hI1 : I1 (m + 1) 0 = p := by rw [q1 _ (by omega) (by omega) (by omega) (by omega), hI]
    unfold s_X11_isPair_l2_st
    dsimp only
    simp (disch := omega) only [t_ck T, bsome, t_p T, hI1, w32_id, if_pos, ifT]
    exact ⟨_, rfl, rfl, I1, rfl, q1, q2, q3⟩
theorem q_isTriple (T : TL sh m) (hI : I (m + 1) 0 = p) (hp : Pp p) (hF : F.1 ≤ 8) (hP : PW I m p F.1) {a b d : Int} (ha : 0 ≤ a ∧ a ≤ p) (hb : 0 ≤ b ∧ b ≤ p) (hd : 0 ≤ d ∧ d ≤ p) {μ : Me} (hq : PQ sh I J m p F (fun s _ => s 0 = a ∧ s 1 = b ∧ s 2 = d) μ) :
    (bn3 p F.1 F.2 a b d = none → ∃ μ', s_X11_isTriple m μ = some (0, μ') ∧ PQ sh I J m p F (fun s _ => s 0 = a ∧ s 1 = b ∧ s 2 = d) μ') ∧
    ∀ r, bn3 p F.1 F.2 a b d = some r → ∃ μ', s_X11_isTriple m μ = some (1, μ') ∧ PQ sh I J m p F (fun s f => (s 0 = a ∧ s 1 = b ∧ s 2 = d) ∧ f 0 = r.1 ∧ f 1 = r.2.1 ∧ f 2 = r.2.2) μ' := by
  have hpb := hp.b
  unfold s_X11_isTriple s_X11_isTriple_l2
  have h := fnd_loop (f := fun s : Int × Me => s_X11_isTriple_l2_st m s.1 s.2) (fun v => (bn2 p F.1 (lsP p F.1 F.2 a v) b d).map fun r => ((v : Int), r)) p.toNat (PQ sh I J m p F (fun s _ => s 0 = a ∧ s 1 = b ∧ s 2 = d))
    (fun r x => x.1 = 1 ∧ PQ sh I J m p F (fun s f => (s 0 = a ∧ s 1 = b ∧ s 2 = d) ∧ f 0 = r.1 ∧ f 1 = r.2.1 ∧ f 2 = r.2.2) x.2) (fun x => x.1 = 0 ∧ PQ sh I J m p F (fun s _ => s 0 = a ∧ s 1 = b ∧ s 2 = d) x.2) ?_ ?_ (p - 1).toNat 1 μ (by omega) hq
  · refine ⟨fun h1 => ?_, fun r h1 => ?_⟩
    · obtain ⟨⟨x1, x2⟩, e, rfl, q⟩ := h.1 h1
      exact ⟨x2, e, q⟩
    · obtain ⟨⟨x1, x2⟩, e, rfl, q⟩ := h.2 r h1
      exact ⟨x2, e, q⟩
  · rintro v μ hv ⟨I1, rfl, q1, q2, q3⟩
    have hI1 : I1 (m + 1) 0 = p := by rw [q1 _ (by omega) (by omega) (by omega) (by omega), hI]
    obtain ⟨I2, hI2⟩ : ∃ I2, up1 I1 (m + 14) (upz (I1 (m + 14)) 0 v) = I2 := ⟨_, rfl⟩
    have qq : PQ sh I J m p F (fun s f => (s 0 = a ∧ s 1 = b ∧ s 2 = d) ∧ f 0 = (v : Int)) (sh, I2, J) :=
      ⟨I2, rfl, fun a x y z w => by rw [← hI2, up1_n _ _ w]; exact q1 a x y z w, q2.ext (by rw [← hI2, up1_n _ _ (by omega)]) (by rw [← hI2, up1_n _ _ (by omega)]), by rw [← hI2, up1_n _ _ (by omega)]; exact q3, by rw [← hI2, up1_s, upz_s]⟩
    obtain ⟨p1, p2⟩ := q_isPair2 T hI hp hF hP ha hb hd (u := v) (by omega) qq
    have st : s_X11_isTriple_l2_st m v (sh, I1, J) = (s_X11_isPair m 2 (sh, I2, J)).bind fun x => if w32 x.1 = 0 then some (.inl ((v : Int) + 1, x.2)) else some (.inr (1, x.2)) := by
      unfold s_X11_isTriple_l2_st
      simp (disch := omega) only [bsome, t_ck T, t_gI T, t_pI T, t_gJ T, t_pJ T, tR_factor T, tA_factor T, tU_factor T, t_p T, hI1, w32_id (x := p), w32_id (x := (v : Int)), if_neg, hI2, ifT]
    refine ⟨fun hr => ?_, fun r hr => ?_⟩
    · obtain ⟨μ', e1, e2⟩ := p1 (map_n hr)
      exact ⟨μ', e2.mono (fun s f g => g.1), by show s_X11_isTriple_l2_st m v (sh, I1, J) = _; rw [st, e1]; rfl⟩
    · obtain ⟨x, hx, rfl⟩ := ms_ hr
      obtain ⟨μ', e1, e2⟩ := p2 x hx
      exact ⟨(1, μ'), by show s_X11_isTriple_l2_st m v (sh, I1, J) = _; rw [st, e1]; rfl, rfl, e2⟩
  · rintro μ ⟨I1, rfl, q1, q2, q3⟩
    have hI1 : I1 (m + 1) 0 = p := by rw [q1 _ (by omega) (by omega) (by omega) (by omega), hI]
    unfold s_X11_isTriple_l2_st
    dsimp only
    simp (disch := omega) only [t_ck T, bsome, t_p T, hI1, w32_id, if_pos, ifT]
    exact ⟨_, rfl, rfl, I1, rfl, q1, q2, q3⟩
/-- a point is put -/
theorem PQ.spot {A : (Int → Int) → (Int → Int) → Prop} {I1 : Nat → Int → Int} {k v : Int} (q1 : ∀ a : Nat, a ≠ m + 3 → a ≠ m + 4 → a ≠ m + 13 → a ≠ m + 14 → I1 a = I a) (q2 : RW I1 m p 40 F.1 F.2) (hA : A (upz (I1 (m + 13)) k v) (I1 (m + 14))) : PQ sh I J m p F A (sh, up1 I1 (m + 13) (upz (I1 (m + 13)) k v), J) :=
  ⟨_, rfl, fun a x y z w => by rw [up1_n _ _ z]; exact q1 a x y z w, q2.ext (up1_n _ _ (by omega)) (up1_n _ _ (by omega)), by rw [up1_s, up1_n _ _ (by omega)]; exact hA⟩
theorem q_isSum1 (T : TL sh m) (hI : I (m + 1) 0 = p) (hp : Pp p) (hF : F.1 ≤ 8) (hP : PW I m p F.1) {μ : Me} (hq : PQ sh I J m p F (fun _ _ => True) μ) :
    (ad1 p F.1 F.2 = none → ∃ μ', s_X11_isSum m 1 μ = some (0, μ') ∧ PQ sh I J m p F (fun _ _ => True) μ') ∧
    ∀ r, ad1 p F.1 F.2 = some r → ∃ μ', s_X11_isSum m 1 μ = some (1, μ') ∧ PQ sh I J m p F (fun s f => s 0 = r.1 ∧ f 0 = r.2) μ' := by
  have hpb := hp.b
  unfold s_X11_isSum s_X11_isSum_l2
  have h := fnd_loop (f := fun s : Int × Me => s_X11_isSum_l2_st m 1 s.1 s.2) (fun a => (bn1 p F.1 F.2 a).map fun b => ((a : Int), b)) (p + 1).toNat (PQ sh I J m p F (fun _ _ => True))
    (fun r x => x.1 = 1 ∧ PQ sh I J m p F (fun s f => s 0 = r.1 ∧ f 0 = r.2) x.2) (fun x => x.1 = 0 ∧ PQ sh I J m p F (fun _ _ => True) x.2) ?_ ?_ (p + 1).toNat 0 μ (by omega) hq
  · refine ⟨fun h1 => ?_, fun r h1 => ?_⟩
    · obtain ⟨⟨x1, x2⟩, e, rfl, q⟩ := h.1 h1
      exact ⟨x2, e, q⟩
    · obtain ⟨⟨x1, x2⟩, e, rfl, q⟩ := h.2 r h1
      exact ⟨x2, e, q⟩
  · rintro v μ hv ⟨I1, rfl, q1, q2, -⟩
    have hI1 : I1 (m + 1) 0 = p := by rw [q1 _ (by omega) (by omega) (by omega) (by omega), hI]
    obtain ⟨I2, hI2⟩ : ∃ I2, up1 I1 (m + 13) (upz (I1 (m + 13)) 0 v) = I2 := ⟨_, rfl⟩
    have s2 : I2 (m + 13) = upz (I1 (m + 13)) 0 v := by rw [← hI2, up1_s]
    have f2 : I2 (m + 14) = I1 (m + 14) := by rw [← hI2, up1_n _ _ (by omega)]
    obtain ⟨I', e1, e2⟩ := q_isLast (I := I) (J := J) T hI hp hF hP 0 (by omega) (I1 := I2) (fun a x y z w => by rw [← hI2, up1_n _ _ z]; exact q1 a x y z w) (q2.ext (by rw [← hI2, up1_n _ _ (by omega)]) (by rw [← hI2, up1_n _ _ (by omega)])) s2 f2
      (fun j j0 j1 => by
        have : j = 0 := by omega
        subst this
        rw [upz_s]
        omega) (fun j j0 j1 => absurd j1 (by omega))
    have hsp1 : upz (I1 (m + 13)) 0 (v : Int) ((0 : Nat) : Int) = v := upz_s _ _ _
    have hc1 : cN p F.1 F.2 (upz (I1 (m + 13)) 0 (v : Int)) (I1 (m + 14)) 0 = F.2 := rfl
    rw [hsp1, hc1] at e1 e2
    have st : s_X11_isSum_l2_st m 1 v (sh, I1, J) = some (if lsB p F.1 F.2 v = 0 then .inl ((v : Int) + 1, (sh, I', J)) else .inr (1, (sh, I', J))) := by
      unfold s_X11_isSum_l2_st
      have e1' : s_X11_isLast m 0 (sh, I2, J) = some (lsB p F.1 F.2 v, (sh, I', J)) := e1
      simp (disch := omega) only [bsome, t_ck T, t_gI T, t_pI T, t_gJ T, t_pJ T, tR_spot T, tA_spot T, tU_spot T, t_p T, hI1, w32_id (x := p), w32_id (x := (v : Int)), w32_id (x := 1), if_pos, if_neg, hI2, e1', ifT]
      rcases lsB_b p F.1 F.2 v with h9 | h9
      · rw [h9]; rfl
      · rw [h9]; rfl
    rcases lsB_b p F.1 F.2 v with h9 | h9
    · rw [h9, if_pos rfl] at st
      refine ⟨fun _ => ⟨_, e2.mono (fun s f g => trivial), st⟩, fun r hr => ?_⟩
      rw [bn1_n h9] at hr
      cases hr
    · rw [h9, if_neg (by decide)] at st
      refine ⟨fun hr => ?_, fun r hr => ⟨_, st, rfl, ?_⟩⟩
      · rw [bn1_s h9] at hr
        cases hr
      · rw [bn1_s h9] at hr
        rw [← Option.some.inj hr]
        exact e2.mono (fun s f g => ⟨by rw [g.1]; exact hsp1, g.2.2⟩)
  · rintro μ ⟨I1, rfl, q1, q2, q3⟩
    have hI1 : I1 (m + 1) 0 = p := by rw [q1 _ (by omega) (by omega) (by omega) (by omega), hI]
    unfold s_X11_isSum_l2_st
    dsimp only
    simp (disch := omega) only [t_ck T, bsome, t_p T, hI1, w32_id, if_pos, ifT]
    exact ⟨_, rfl, rfl, I1, rfl, q1, q2, q3⟩
theorem q_isSum2 (T : TL sh m) (hI : I (m + 1) 0 = p) (hp : Pp p) (hF : F.1 ≤ 8) (hP : PW I m p F.1) {μ : Me} (hq : PQ sh I J m p F (fun _ _ => True) μ) :
    (ad2 p F.1 F.2 = none → ∃ μ', s_X11_isSum m 2 μ = some (0, μ') ∧ PQ sh I J m p F (fun _ _ => True) μ') ∧
    ∀ r, ad2 p F.1 F.2 = some r → ∃ μ', s_X11_isSum m 2 μ = some (1, μ') ∧ PQ sh I J m p F (fun s f => (s 0 = r.1.1 ∧ s 1 = r.1.2) ∧ f 0 = r.2.1 ∧ f 1 = r.2.2) μ' := by
  have hpb := hp.b
  unfold s_X11_isSum s_X11_isSum_l2
  have h := fnd_loop (f := fun s : Int × Me => s_X11_isSum_l2_st m 2 s.1 s.2) (ad2b p F.1 F.2) (p + 1).toNat (PQ sh I J m p F (fun _ _ => True))
    (fun r x => x.1 = 1 ∧ PQ sh I J m p F (fun s f => (s 0 = r.1.1 ∧ s 1 = r.1.2) ∧ f 0 = r.2.1 ∧ f 1 = r.2.2) x.2) (fun x => x.1 = 0 ∧ PQ sh I J m p F (fun _ _ => True) x.2) ?_ ?_ (p + 1).toNat 0 μ (by omega) hq
  · refine ⟨fun h1 => ?_, fun r h1 => ?_⟩
    · obtain ⟨⟨x1, x2⟩, e, rfl, q⟩ := h.1 h1
      exact ⟨x2, e, q⟩
    · obtain ⟨⟨x1, x2⟩, e, rfl, q⟩ := h.2 r h1
      exact ⟨x2, e, q⟩
  · rintro a μ ha ⟨I1, rfl, q1, q2, -⟩
    have hI1 : I1 (m + 1) 0 = p := by rw [q1 _ (by omega) (by omega) (by omega) (by omega), hI]
    have st : s_X11_isSum_l2_st m 2 a (sh, I1, J) = s_X11_isSum_l36 m 2 a (a + 1) (sh, up1 I1 (m + 13) (upz (I1 (m + 13)) 0 a), J) := by
      unfold s_X11_isSum_l2_st
      simp (disch := omega) only [bsome, t_ck T, t_gI T, t_pI T, t_gJ T, t_pJ T, tR_spot T, tA_spot T, tU_spot T, t_p T, hI1, w32_id (x := p), w32_id (x := (a : Int)), w32_id (x := 1), w32_id (x := 2), if_neg, ifT]
    have inner := fnd_loop (f := fun s : Int × Me => s_X11_isSum_l36_st m 2 a s.1 s.2) (fun b => (bn2 p F.1 F.2 a b).map fun r => (((a : Int), (b : Int)), r)) (p + 1).toNat (PQ sh I J m p F (fun s _ => s 0 = (a : Int)))
      (fun r x => ∃ μ', x = .inr (1, μ') ∧ PQ sh I J m p F (fun s f => (s 0 = r.1.1 ∧ s 1 = r.1.2) ∧ f 0 = r.2.1 ∧ f 1 = r.2.2) μ') (fun x => ∃ μ', x = .inl ((a : Int) + 1, μ') ∧ PQ sh I J m p F (fun _ _ => True) μ') ?_ ?_ (p - a).toNat (a + 1) _ (by omega) (PQ.spot (k := 0) (v := a) q1 q2 (upz_s _ _ _))
    · refine ⟨fun hr => ?_, fun r hr => ?_⟩
      · obtain ⟨x, e, μ', rfl, q⟩ := inner.1 hr
        exact ⟨μ', q, st.trans e⟩
      · obtain ⟨x, e, μ', rfl, q⟩ := inner.2 r hr
        exact ⟨(1, μ'), st.trans e, rfl, q⟩
    · rintro b μ hb ⟨I2, rfl, z1, z2, z3⟩
      have hI2 : I2 (m + 1) 0 = p := by rw [z1 _ (by omega) (by omega) (by omega) (by omega), hI]
      obtain ⟨I3, hI3⟩ : ∃ I3, up1 I2 (m + 13) (upz (I2 (m + 13)) 1 b) = I3 := ⟨_, rfl⟩
      have qq : PQ sh I J m p F (fun s _ => s 0 = (a : Int) ∧ s 1 = (b : Int)) (sh, I3, J) := by
        rw [← hI3]
        exact PQ.spot z1 z2 ⟨by rw [upz_n _ _ (by decide)]; exact z3, upz_s _ _ _⟩
      obtain ⟨p1, p2⟩ := q_isPair1 T hI hp hF hP (by omega) (by omega) qq
      have st2 : s_X11_isSum_l36_st m 2 a b (sh, I2, J) = (s_X11_isPair m 1 (sh, I3, J)).bind fun x => if w32 x.1 = 0 then s_X11_isSum_l71 m 2 a b (b + 1) x.2 else some (.inr (.inr (1, x.2))) := by
        unfold s_X11_isSum_l36_st
        simp (disch := omega) only [bsome, t_ck T, t_gI T, t_pI T, t_gJ T, t_pJ T, tR_spot T, tA_spot T, tU_spot T, t_p T, hI2, w32_id (x := p), w32_id (x := (b : Int)), w32_id (x := 2), if_pos, if_neg, hI3, ifT]
      refine ⟨fun hr => ?_, fun r hr => ?_⟩
      · obtain ⟨μ', e1, e2⟩ := p1 (map_n hr)
        obtain ⟨I4, rfl, y1, y2, y3⟩ := e2
        have hI4 : I4 (m + 1) 0 = p := by rw [y1 _ (by omega) (by omega) (by omega) (by omega), hI]
        refine ⟨(sh, I4, J), ⟨I4, rfl, y1, y2, y3.1⟩, ?_⟩
        show s_X11_isSum_l36_st m 2 a b (sh, I2, J) = _
        rw [st2, e1, bsome]
        show s_X11_isSum_l71 m 2 a b (b + 1) (sh, I4, J) = _
        rw [e_X11_isSum_l71]
        unfold s_X11_isSum_l71_st
        simp (disch := omega) only [t_ck T, bsome, t_p T, hI4, w32_id (x := p), w32_id (x := (b : Int) + 1), w32_id (x := 2), w32_id (x := 3), if_neg, ifT]
        by_cases h9 : p < (b : Int) + 1
        · rw [if_pos h9]; rfl
        · rw [if_neg h9]; rfl
      · obtain ⟨x, hx, rfl⟩ := ms_ hr
        obtain ⟨μ', e1, e2⟩ := p2 x hx
        exact ⟨.inr (1, μ'), by show s_X11_isSum_l36_st m 2 a b (sh, I2, J) = _; rw [st2, e1]; rfl, μ', rfl, e2⟩
    · rintro μ ⟨I2, rfl, z1, z2, z3⟩
      have hI2 : I2 (m + 1) 0 = p := by rw [z1 _ (by omega) (by omega) (by omega) (by omega), hI]
      unfold s_X11_isSum_l36_st
      dsimp only
      simp (disch := omega) only [t_ck T, bsome, t_p T, hI2, w32_id, if_pos, ifT]
      exact ⟨_, rfl, _, rfl, I2, rfl, z1, z2, trivial⟩
  · rintro μ ⟨I1, rfl, q1, q2, q3⟩
    have hI1 : I1 (m + 1) 0 = p := by rw [q1 _ (by omega) (by omega) (by omega) (by omega), hI]
    unfold s_X11_isSum_l2_st
    dsimp only
    simp (disch := omega) only [t_ck T, bsome, t_p T, hI1, w32_id, if_pos, ifT]
    exact ⟨_, rfl, rfl, I1, rfl, q1, q2, q3⟩
theorem q_isSum3 (T : TL sh m) (hI : I (m + 1) 0 = p) (hp : Pp p) (hF : F.1 ≤ 8) (hP : PW I m p F.1) {μ : Me} (hq : PQ sh I J m p F (fun _ _ => True) μ) :
    (ad3 p F.1 F.2 = none → ∃ μ', s_X11_isSum m 3 μ = some (0, μ') ∧ PQ sh I J m p F (fun _ _ => True) μ') ∧
    ∀ r, ad3 p F.1 F.2 = some r → ∃ μ', s_X11_isSum m 3 μ = some (1, μ') ∧ PQ sh I J m p F (fun s f => (s 0 = r.1.1 ∧ s 1 = r.1.2.1 ∧ s 2 = r.1.2.2) ∧ f 0 = r.2.1 ∧ f 1 = r.2.2.1 ∧ f 2 = r.2.2.2) μ' := by
  have hpb := hp.b
  unfold s_X11_isSum s_X11_isSum_l2
  have h := fnd_loop (f := fun s : Int × Me => s_X11_isSum_l2_st m 3 s.1 s.2) (ad3b p F.1 F.2) (p + 1).toNat (PQ sh I J m p F (fun _ _ => True))
    (fun r x => x.1 = 1 ∧ PQ sh I J m p F (fun s f => (s 0 = r.1.1 ∧ s 1 = r.1.2.1 ∧ s 2 = r.1.2.2) ∧ f 0 = r.2.1 ∧ f 1 = r.2.2.1 ∧ f 2 = r.2.2.2) x.2) (fun x => x.1 = 0 ∧ PQ sh I J m p F (fun _ _ => True) x.2) ?_ ?_ (p + 1).toNat 0 μ (by omega) hq
  · refine ⟨fun h1 => ?_, fun r h1 => ?_⟩
    · obtain ⟨⟨x1, x2⟩, e, rfl, q⟩ := h.1 h1
      exact ⟨x2, e, q⟩
    · obtain ⟨⟨x1, x2⟩, e, rfl, q⟩ := h.2 r h1
      exact ⟨x2, e, q⟩
  · rintro a μ ha ⟨I1, rfl, q1, q2, -⟩
    have hI1 : I1 (m + 1) 0 = p := by rw [q1 _ (by omega) (by omega) (by omega) (by omega), hI]
    have st : s_X11_isSum_l2_st m 3 a (sh, I1, J) = s_X11_isSum_l36 m 3 a (a + 1) (sh, up1 I1 (m + 13) (upz (I1 (m + 13)) 0 a), J) := by
      unfold s_X11_isSum_l2_st
      simp (disch := omega) only [bsome, t_ck T, t_gI T, t_pI T, t_gJ T, t_pJ T, tR_spot T, tA_spot T, tU_spot T, t_p T, hI1, w32_id (x := p), w32_id (x := (a : Int)), w32_id (x := 1), w32_id (x := 3), if_neg, ifT]
    have inner := fnd_loop (f := fun s : Int × Me => s_X11_isSum_l36_st m 3 a s.1 s.2) (ad3c p F.1 F.2 a) (p + 1).toNat (PQ sh I J m p F (fun s _ => s 0 = (a : Int)))
      (fun r x => ∃ μ', x = .inr (1, μ') ∧ PQ sh I J m p F (fun s f => (s 0 = r.1.1 ∧ s 1 = r.1.2.1 ∧ s 2 = r.1.2.2) ∧ f 0 = r.2.1 ∧ f 1 = r.2.2.1 ∧ f 2 = r.2.2.2) μ') (fun x => ∃ μ', x = .inl ((a : Int) + 1, μ') ∧ PQ sh I J m p F (fun _ _ => True) μ') ?_ ?_ (p - a).toNat (a + 1) _ (by omega) (PQ.spot (k := 0) (v := a) q1 q2 (upz_s _ _ _))
    · refine ⟨fun hr => ?_, fun r hr => ?_⟩
      · obtain ⟨x, e, μ', rfl, q⟩ := inner.1 hr
        exact ⟨μ', q, st.trans e⟩
      · obtain ⟨x, e, μ', rfl, q⟩ := inner.2 r hr
        exact ⟨(1, μ'), st.trans e, rfl, q⟩
    · rintro b μ hb ⟨I2, rfl, z1, z2, z3⟩
      have hI2 : I2 (m + 1) 0 = p := by rw [z1 _ (by omega) (by omega) (by omega) (by omega), hI]
      obtain ⟨I3, hI3⟩ : ∃ I3, up1 I2 (m + 13) (upz (I2 (m + 13)) 1 b) = I3 := ⟨_, rfl⟩
      have qq : PQ sh I J m p F (fun s _ => s 0 = (a : Int) ∧ s 1 = (b : Int)) (sh, I3, J) := by
        rw [← hI3]
        exact PQ.spot z1 z2 ⟨by rw [upz_n _ _ (by decide)]; exact z3, upz_s _ _ _⟩
      have st2 : s_X11_isSum_l36_st m 3 a b (sh, I2, J) = s_X11_isSum_l71 m 3 a b (b + 1) (sh, I3, J) := by
        unfold s_X11_isSum_l36_st
        simp (disch := omega) only [bsome, t_ck T, t_gI T, t_pI T, t_gJ T, t_pJ T, tR_spot T, tA_spot T, tU_spot T, t_p T, hI2, w32_id (x := p), w32_id (x := (b : Int)), w32_id (x := 2), w32_id (x := 3), if_neg, hI3, ifT]
      have inn2 := fnd_loop (f := fun s : Int × Me => s_X11_isSum_l71_st m 3 a b s.1 s.2) (fun d => (bn3 p F.1 F.2 a b d).map fun r => (((a : Int), (b : Int), (d : Int)), r)) (p + 1).toNat (PQ sh I J m p F (fun s _ => s 0 = (a : Int) ∧ s 1 = (b : Int)))
        (fun r x => ∃ μ', x = .inr (.inr (1, μ')) ∧ PQ sh I J m p F (fun s f => (s 0 = r.1.1 ∧ s 1 = r.1.2.1 ∧ s 2 = r.1.2.2) ∧ f 0 = r.2.1 ∧ f 1 = r.2.2.1 ∧ f 2 = r.2.2.2) μ') (fun x => ∃ μ', x = .inl ((b : Int) + 1, μ') ∧ PQ sh I J m p F (fun s _ => s 0 = (a : Int)) μ') ?_ ?_ (p - b).toNat (b + 1) _ (by omega) qq
      · refine ⟨fun hr => ?_, fun r hr => ?_⟩
        · obtain ⟨x, e, μ', rfl, q⟩ := inn2.1 hr
          exact ⟨μ', q, st2.trans e⟩
        · obtain ⟨x, e, μ', rfl, q⟩ := inn2.2 r hr
          exact ⟨.inr (1, μ'), st2.trans e, μ', rfl, q⟩
      · rintro d μ hd ⟨I4, rfl, y1, y2, y3⟩
        have hI4 : I4 (m + 1) 0 = p := by rw [y1 _ (by omega) (by omega) (by omega) (by omega), hI]
        obtain ⟨I5, hI5⟩ : ∃ I5, up1 I4 (m + 13) (upz (I4 (m + 13)) 2 d) = I5 := ⟨_, rfl⟩
        have q5 : PQ sh I J m p F (fun s _ => s 0 = (a : Int) ∧ s 1 = (b : Int) ∧ s 2 = (d : Int)) (sh, I5, J) := by
          rw [← hI5]
          exact PQ.spot y1 y2 ⟨by rw [upz_n _ _ (by decide)]; exact y3.1, by rw [upz_n _ _ (by decide)]; exact y3.2, upz_s _ _ _⟩
        obtain ⟨p1, p2⟩ := q_isTriple T hI hp hF hP (by omega) (by omega) (by omega) q5
        have st3 : s_X11_isSum_l71_st m 3 a b d (sh, I4, J) = (s_X11_isTriple m (sh, I5, J)).bind fun x => if w32 x.1 = 0 then some (.inl ((d : Int) + 1, x.2)) else some (.inr (.inr (.inr (1, x.2)))) := by
          unfold s_X11_isSum_l71_st
          simp (disch := omega) only [bsome, t_ck T, t_gI T, t_pI T, t_gJ T, t_pJ T, tR_spot T, tA_spot T, tU_spot T, t_p T, hI4, w32_id (x := p), w32_id (x := (d : Int)), w32_id (x := 3), if_pos, if_neg, hI5, ifT]
        refine ⟨fun hr => ?_, fun r hr => ?_⟩
        · obtain ⟨μ', e1, e2⟩ := p1 (map_n hr)
          exact ⟨μ', e2.mono (fun s f g => ⟨g.1, g.2.1⟩), by show s_X11_isSum_l71_st m 3 a b d (sh, I4, J) = _; rw [st3, e1]; rfl⟩
        · obtain ⟨x, hx, rfl⟩ := ms_ hr
          obtain ⟨μ', e1, e2⟩ := p2 x hx
          exact ⟨.inr (.inr (1, μ')), by show s_X11_isSum_l71_st m 3 a b d (sh, I4, J) = _; rw [st3, e1]; rfl, μ', rfl, e2⟩
      · rintro μ ⟨I4, rfl, y1, y2, y3⟩
        have hI4 : I4 (m + 1) 0 = p := by rw [y1 _ (by omega) (by omega) (by omega) (by omega), hI]
        unfold s_X11_isSum_l71_st
        dsimp only
        simp (disch := omega) only [t_ck T, bsome, t_p T, hI4, w32_id (x := p), w32_id (x := (((p + 1).toNat : Nat) : Int)), if_pos, ifT]
        exact ⟨_, rfl, _, rfl, I4, rfl, y1, y2, y3.1⟩
    · rintro μ ⟨I2, rfl, z1, z2, z3⟩
      have hI2 : I2 (m + 1) 0 = p := by rw [z1 _ (by omega) (by omega) (by omega) (by omega), hI]
      unfold s_X11_isSum_l36_st
      dsimp only
      simp (disch := omega) only [t_ck T, bsome, t_p T, hI2, w32_id, if_pos, ifT]
      exact ⟨_, rfl, _, rfl, I2, rfl, z1, z2, trivial⟩
  · rintro μ ⟨I1, rfl, q1, q2, q3⟩
    have hI1 : I1 (m + 1) 0 = p := by rw [q1 _ (by omega) (by omega) (by omega) (by omega), hI]
    unfold s_X11_isSum_l2_st
    dsimp only
    simp (disch := omega) only [t_ck T, bsome, t_p T, hI1, w32_id, if_pos, ifT]
    exact ⟨_, rfl, rfl, I1, rfl, q1, q2, q3⟩
end TPq
