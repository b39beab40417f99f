/-! the twin: in how many ways -/
set_option maxRecDepth 100000
/-- sums of exactly k numbers 1 to part -/
def wyR (f : Nat → Int → Int) (p : Nat) : Nat → Int → Int
  | 0, v => f 0 v
  | k + 1, v => f (k + 1) v + (if (p : Int) ≤ v then wyR f p k (v - p) else 0)
def wyN : Nat → Nat → Int → Int
  | 0 => fun k v => if k = 0 ∧ v = 0 then 1 else 0
  | d + 1 => wyR (wyN d) (d + 1)
def wyS (d : Nat) (v : Int) : Nat → Int
  | 0 => 0
  | n + 1 => wyS d v n + wyN d n v
/-- of at most r numbers up to d -/
def wyP (w : Int) (r d : Nat) : Int := if w < 0 then 0 else wyS d w (r + 1)
def cntP (r d k : Int) : Int := if d * r - k < 0 ∨ (d * r - k) % 2 ≠ 0 then 0 else wyP ((d * r - k) / 2) r.toNat d.toNat - wyP ((d * r - k) / 2 - 1) r.toNat d.toNat
section TCn
variable {sh : Sh} {I J : Nat → Int → Int} {m : Nat}
theorem ex_j {ρ : Type} {x : Option ρ} (g : (Nat → Int → Int) → ρ) {A : (Nat → Int → Int) → Prop} (h : ∃ r, x = some r ∧ ∃ J', r = g J' ∧ A J') : ∃ J', x = some (g J') ∧ A J' := by
  obtain ⟨r, h1, J', h2, h3⟩ := h
  exact ⟨J', by rw [h1, h2], h3⟩
theorem t_ways0 (T : TL sh m) (w r d : Int) : ∃ J', s_X11_waysOf_l9 m w r d 0 (sh, I, J) = s_X11_waysOf_l69 m w r d 1 (sh, I, J') ∧ (∀ k v : Nat, k ≤ 12 → v < 97 → J' (m + 8) (97 * k + v) = wyN 0 k v) ∧ ∀ a : Nat, a ≠ m + 8 → J' a = J a := by
  have inner : ∀ (k : Nat) (J1 : Nat → Int → Int), k ≤ 12 → ∃ J', s_X11_waysOf_l19 m w r d k 0 (sh, I, J1) = some (.inl ((k : Int) + 1, (sh, I, J'))) ∧ (∀ v : Nat, v < 97 → J' (m + 8) (97 * k + v) = wyN 0 k v) ∧ (∀ j : Int, j < 97 * k → J' (m + 8) j = J1 (m + 8) j) ∧ ∀ a : Nat, a ≠ m + 8 → J' a = J1 a := by
    intro k J1 hk
    unfold s_X11_waysOf_l19
    refine ex_j (fun J' => Sum.inl ((k : Int) + 1, ((sh, I, J') : Me))) (whileO_for 97
      (fun i s => ∃ J', s = ((i : Int), ((sh, I, J') : Me)) ∧ (∀ v : Nat, v < i → J' (m + 8) (97 * k + v) = wyN 0 k v) ∧ (∀ j : Int, j < 97 * k → J' (m + 8) j = J1 (m + 8) j) ∧ ∀ a : Nat, a ≠ m + 8 → J' a = J1 a)
      _ ?_ ?_ _ ?_)
    · rintro i s hi ⟨J2, rfl, a1, a2, a3⟩
      refine ⟨((i : Int) + 1, (sh, I, up1 J2 (m + 8) (upz (J2 (m + 8)) (97 * k + i) (wyN 0 k i)))), ?_, _, rfl, fun v hv => ?_, fun j hj => ?_, fun a ha => ?_⟩
      · unfold s_X11_waysOf_l19_st
        dsimp only
        simp (disch := omega) only [bsome, t_ck T, t_gI T, t_pI T, t_gJ T, t_pJ T, tR_ways T, tA_ways T, tU_ways T, w32_id, if_neg, ifT]
        have hw0 : wyN 0 k i = if k = 0 ∧ (i : Int) = 0 then 1 else 0 := rfl
        rw [hw0]
        by_cases h1 : k = 0
        · rw [if_pos (show (k : Int) = 0 by omega)]
          by_cases h2 : i = 0
          · rw [if_pos (show (i : Int) = 0 by omega), if_pos ⟨h1, by omega⟩]
          · rw [if_neg (show ¬ (i : Int) = 0 by omega), if_neg (fun h => h2 (by have := h.2; omega))]
        · rw [if_neg (show ¬ (k : Int) = 0 by omega), if_neg (fun h => h1 h.1)]
      · rw [up1_s]
        by_cases e : v = i
        · rw [e, upz_s]
        · rw [upz_n _ _ (by omega)]
          exact a1 v (by omega)
      · rw [up1_s, upz_n _ _ (by omega)]
        exact a2 j hj
      · rw [up1_n _ _ ha, a3 a ha]
    · rintro s ⟨J2, rfl, a1, a2, a3⟩
      unfold s_X11_waysOf_l19_st
      dsimp only
      simp (disch := omega) only [w32_id, if_pos, ifT]
      exact ⟨_, rfl, J2, rfl, a1, a2, a3⟩
    · exact ⟨J1, rfl, fun v hv => by omega, fun _ _ => rfl, fun _ _ => rfl⟩
  have outer : ∀ (n i : Nat) (J1 : Nat → Int → Int), i + n = 13 → (∀ k v : Nat, k < i → v < 97 → J1 (m + 8) (97 * k + v) = wyN 0 k v) → (∀ a : Nat, a ≠ m + 8 → J1 a = J a) →
      ∃ J', s_X11_waysOf_l9 m w r d i (sh, I, J1) = s_X11_waysOf_l69 m w r d 1 (sh, I, J') ∧ (∀ k v : Nat, k ≤ 12 → v < 97 → J' (m + 8) (97 * k + v) = wyN 0 k v) ∧ ∀ a : Nat, a ≠ m + 8 → J' a = J a := by
    intro n
    induction n with
    | zero =>
      intro i J1 hi h1 h2
      refine ⟨J1, ?_, fun k v hk hv => h1 k v (by omega) hv, h2⟩
      rw [e_X11_waysOf_l9]
      unfold s_X11_waysOf_l9_st
      simp (disch := omega) only [w32_id, if_pos, ifT]
      cases s_X11_waysOf_l69 m w r d 1 (sh, I, J1) <;> rfl
    | succ n ih =>
      intro i J1 hi h1 h2
      obtain ⟨J2, e2, b1, b2, b3⟩ := inner i J1 (by omega)
      obtain ⟨J3, e3, c1, c2⟩ := ih (i + 1) J2 (by omega) (fun k v hk hv => by
        by_cases e : k = i
        · rw [e]; exact b1 v hv
        · rw [b2 _ (by omega)]
          exact h1 k v (by omega) hv) (fun a ha => by rw [b3 a ha, h2 a ha])
      refine ⟨J3, ?_, c1, c2⟩
      rw [e_X11_waysOf_l9]
      unfold s_X11_waysOf_l9_st
      simp (disch := omega) only [w32_id, if_neg, e2, ifT]
      exact e3
  exact outer 13 0 J (by omega) (fun k v hk => by omega) (fun _ _ => rfl)
/-- one part more -/
theorem t_ways1 (T : TL sh m) {w : Nat} {r d p : Nat} (hw : w < 97) (hr : r ≤ 12) (hp : 1 ≤ p ∧ p ≤ 8) {J1 : Nat → Int → Int} (h : ∀ k v : Nat, k ≤ r → v ≤ w → J1 (m + 8) (97 * k + v) = wyN (p - 1) k v) :
    ∃ J', s_X11_waysOf_l78 m w r d p 1 (sh, I, J1) = some (.inl ((p : Int) + 1, (sh, I, J'))) ∧ (∀ k v : Nat, k ≤ r → v ≤ w → J' (m + 8) (97 * k + v) = wyN p k v) ∧ ∀ a : Nat, a ≠ m + 8 → J' a = J1 a := by
  obtain ⟨q, rfl⟩ : ∃ q, p = q + 1 := ⟨p - 1, by omega⟩
  rw [Nat.add_sub_cancel] at h
  have zero : ∀ v, wyN (q + 1) 0 v = wyN q 0 v := fun v => rfl
  have line : ∀ (k : Nat) (J2 : Nat → Int → Int), 1 ≤ k → k ≤ r → (∀ l v : Nat, l < k → v ≤ w → J2 (m + 8) (97 * l + v) = wyN (q + 1) l v) → (∀ l v : Nat, k ≤ l → l ≤ r → v ≤ w → J2 (m + 8) (97 * l + v) = wyN q l v) → (∀ a : Nat, a ≠ m + 8 → J2 a = J1 a) →
      ∃ J', s_X11_waysOf_l88 m w r d ((q + 1 : Nat) : Int) k ((q + 1 : Nat) : Int) (sh, I, J2) = some (.inl ((k : Int) + 1, (sh, I, J'))) ∧ (∀ l v : Nat, l < k + 1 → v ≤ w → J' (m + 8) (97 * l + v) = wyN (q + 1) l v) ∧ (∀ l v : Nat, k + 1 ≤ l → l ≤ r → v ≤ w → J' (m + 8) (97 * l + v) = wyN q l v) ∧ (∀ a : Nat, a ≠ m + 8 → J' a = J1 a) := by
    intro k J2 k1 k2 h1 h2 h3
    obtain ⟨k', rfl⟩ : ∃ k', k = k' + 1 := ⟨k - 1, by omega⟩
    unfold s_X11_waysOf_l88
    refine ex_j (fun J' => Sum.inl (((k' + 1 : Nat) : Int) + 1, ((sh, I, J') : Me))) (whileO_for (w + 1 - (q + 1))
      (fun i s => ∃ J', s = (((q + 1 : Nat) : Int) + i, ((sh, I, J') : Me)) ∧ (∀ l v : Nat, l < k' + 1 → v ≤ w → J' (m + 8) (97 * l + v) = wyN (q + 1) l v) ∧ (∀ v : Nat, v ≤ w → v < q + 1 + i → J' (m + 8) (97 * (k' + 1 : Nat) + v) = wyN (q + 1) (k' + 1) v) ∧ (∀ v : Nat, v ≤ w → q + 1 + i ≤ v → J' (m + 8) (97 * (k' + 1 : Nat) + v) = wyN q (k' + 1) v) ∧ (∀ l v : Nat, k' + 1 + 1 ≤ l → l ≤ r → v ≤ w → J' (m + 8) (97 * l + v) = wyN q l v) ∧ (∀ a : Nat, a ≠ m + 8 → J' a = J1 a))
      _ ?_ ?_ _ ?_)
    · rintro i s hi ⟨J3, rfl, a1, a2, a3, a4, a5⟩
      have o1 := a3 (q + 1 + i) (by omega) (by omega)
      have o2 := a1 k' i (by omega) (by omega)
      have hv : wyN (q + 1) (k' + 1) ((q + 1 + i : Nat) : Int) = wyN q (k' + 1) ((q + 1 + i : Nat) : Int) + wyN (q + 1) k' (i : Int) := by
        show wyN q (k' + 1) _ + (if ((q + 1 : Nat) : Int) ≤ ((q + 1 + i : Nat) : Int) then wyN (q + 1) k' (((q + 1 + i : Nat) : Int) - ((q + 1 : Nat) : Int)) else 0) = _
        rw [if_pos (by omega), show ((q + 1 + i : Nat) : Int) - ((q + 1 : Nat) : Int) = i by omega]
      rw [show ((q + 1 + i : Nat) : Int) = ((q + 1 : Nat) : Int) + i by omega] at o1 hv
      refine ⟨(((q + 1 : Nat) : Int) + i + 1, (sh, I, up1 J3 (m + 8) (upz (J3 (m + 8)) (97 * (k' + 1 : Nat) + (((q + 1 : Nat) : Int) + i)) (wyN (q + 1) (k' + 1) (((q + 1 : Nat) : Int) + i))))), ?_, _, by rw [show ((q + 1 : Nat) : Int) + ((i + 1 : Nat) : Int) = ((q + 1 : Nat) : Int) + i + 1 by omega], fun l v hl hv2 => ?_, fun v hv2 hv3 => ?_, fun v hv2 hv3 => ?_, fun l v hl1 hl2 hv2 => ?_, fun a ha => ?_⟩
      · unfold s_X11_waysOf_l88_st
        dsimp only
        rw [show 97 * (((k' + 1 : Nat) : Int) - 1) + (((q + 1 : Nat) : Int) + i) - ((q + 1 : Nat) : Int) = 97 * k' + i by omega]
        simp (disch := omega) only [bsome, t_ck T, t_gI T, t_pI T, t_gJ T, t_pJ T, tR_ways T, tA_ways T, tU_ways T, w32_id, if_neg, o1, o2, ifT]
        rw [hv]
      · rw [up1_s, upz_n _ _ (by omega)]
        exact a1 l v hl hv2
      · rw [up1_s]
        by_cases e : v = q + 1 + i
        · rw [e, show ((q + 1 + i : Nat) : Int) = ((q + 1 : Nat) : Int) + i by omega, upz_s]
        · rw [upz_n _ _ (by omega)]
          exact a2 v hv2 (by omega)
      · rw [up1_s, upz_n _ _ (by omega)]
        exact a3 v hv2 (by omega)
      · rw [up1_s, upz_n _ _ (by omega)]
        exact a4 l v hl1 hl2 hv2
      · rw [up1_n _ _ ha, a5 a ha]
    · rintro s ⟨J3, rfl, a1, a2, a3, a4, a5⟩
      unfold s_X11_waysOf_l88_st
      dsimp only
      simp (disch := omega) only [w32_id, if_pos, ifT]
      refine ⟨_, rfl, J3, rfl, fun l v hl hv => ?_, a4, a5⟩
      by_cases e : l = k' + 1
      · rw [e]
        exact a2 v hv (by omega)
      · exact a1 l v (by omega) hv
    · refine ⟨J2, by simp, h1, fun v hv hv2 => ?_, fun v hv _ => h2 _ v (Nat.le_refl _) k2 hv, fun l v hl1 hl2 hv => h2 l v (by omega) hl2 hv, h3⟩
      rw [h2 _ v (Nat.le_refl _) k2 hv]
      show _ = wyN q (k' + 1) v + (if ((q + 1 : Nat) : Int) ≤ v then wyN (q + 1) k' ((v : Int) - (q + 1 : Nat)) else 0)
      rw [if_neg (by omega), Int.add_zero]
  have outer : ∀ (n k : Nat) (J2 : Nat → Int → Int), k + n = r + 1 → 1 ≤ k → (∀ l v : Nat, l < k → l ≤ r → v ≤ w → J2 (m + 8) (97 * l + v) = wyN (q + 1) l v) → (∀ l v : Nat, k ≤ l → l ≤ r → v ≤ w → J2 (m + 8) (97 * l + v) = wyN q l v) → (∀ a : Nat, a ≠ m + 8 → J2 a = J1 a) →
      ∃ J', s_X11_waysOf_l78 m w r d ((q + 1 : Nat) : Int) k (sh, I, J2) = some (.inl (((q + 1 : Nat) : Int) + 1, (sh, I, J'))) ∧ (∀ k v : Nat, k ≤ r → v ≤ w → J' (m + 8) (97 * k + v) = wyN (q + 1) k v) ∧ ∀ a : Nat, a ≠ m + 8 → J' a = J1 a := by
    intro n
    induction n with
    | zero =>
      intro k J2 hk k1 h1 h2 h3
      refine ⟨J2, ?_, fun l v hl hv => h1 l v (by omega) hl hv, h3⟩
      rw [e_X11_waysOf_l78]
      unfold s_X11_waysOf_l78_st
      simp (disch := omega) only [w32_id, if_pos, ifT]
      rfl
    | succ n ih =>
      intro k J2 hk k1 h1 h2 h3
      obtain ⟨J3, e3, a1, a2, a3⟩ := line k J2 k1 (by omega) (fun l v hl hv => h1 l v hl (by omega) hv) h2 h3
      obtain ⟨J4, e4, b1, b2⟩ := ih (k + 1) J3 (by omega) (by omega) (fun l v hl hl2 hv => a1 l v hl hv) (fun l v hl1 hl2 hv => a2 l v hl1 hl2 hv) a3
      refine ⟨J4, ?_, b1, b2⟩
      rw [e_X11_waysOf_l78]
      unfold s_X11_waysOf_l78_st
      simp (disch := omega) only [w32_id, if_neg, e3, ifT]
      exact e4
  by_cases hr0 : r = 0
  · subst hr0
    refine ⟨J1, ?_, fun k v hk hv => ?_, fun _ _ => rfl⟩
    · rw [e_X11_waysOf_l78]
      unfold s_X11_waysOf_l78_st
      simp (disch := omega) only [w32_id, if_pos, ifT]
      rfl
    · have : k = 0 := by omega
      subst this
      rw [h 0 v (Nat.le_refl _) hv]
      rfl
  · exact outer r 1 J1 (by omega) (by omega) (fun l v hl hl2 hv => by
      have : l = 0 := by omega
      subst this
      rw [h 0 v (by omega) hv]
      rfl) (fun l v hl1 hl2 hv => h l v hl2 hv) (fun _ _ => rfl)
theorem t_waysOf (T : TL sh m) {w : Int} {r d : Nat} (hw : -1 ≤ w ∧ w < 97) (hr : r ≤ 12) (hd : 1 ≤ d ∧ d ≤ 8) : ∃ J', s_X11_waysOf m w r d (sh, I, J) = some (wyP w r d, (sh, I, J')) ∧ ∀ a : Nat, a ≠ m + 8 → J' a = J a := by
  unfold s_X11_waysOf wyP
  rw [w32_id (by omega) (by omega)]
  by_cases h0 : w < 0
  · rw [if_neg (by omega), if_pos h0]
    exact ⟨J, rfl, fun _ _ => rfl⟩
  rw [if_pos (by omega), if_neg h0]
  obtain ⟨w', rfl⟩ : ∃ w' : Nat, w = w' := ⟨w.toNat, by omega⟩
  obtain ⟨J1, e1, a1, a2⟩ := t_ways0 (I := I) (J := J) T w' r d
  rw [e1]
  have parts : ∀ (n p : Nat) (J2 : Nat → Int → Int), p + n = d + 1 → 1 ≤ p → (∀ k v : Nat, k ≤ r → v ≤ w' → J2 (m + 8) (97 * k + v) = wyN (p - 1) k v) → (∀ a : Nat, a ≠ m + 8 → J2 a = J a) →
      ∃ J', s_X11_waysOf_l69 m w' r d p (sh, I, J2) = s_X11_waysOf_b146 m w' r (sh, I, J') ∧ (∀ k v : Nat, k ≤ r → v ≤ w' → J' (m + 8) (97 * k + v) = wyN d k v) ∧ ∀ a : Nat, a ≠ m + 8 → J' a = J a := by
    intro n
    induction n with
    | zero =>
      intro p J2 hp p1 h1 h2
      refine ⟨J2, ?_, fun k v hk hv => ?_, h2⟩
      · rw [e_X11_waysOf_l69]
        unfold s_X11_waysOf_l69_st
        simp (disch := omega) only [w32_id, if_pos, ifT]
        cases s_X11_waysOf_b146 m w' r (sh, I, J2) <;> rfl
      · rw [h1 k v hk hv, show p - 1 = d by omega]
    | succ n ih =>
      intro p J2 hp p1 h1 h2
      obtain ⟨J3, e3, b1, b2⟩ := t_ways1 (I := I) (d := d) T (w := w') (by omega) hr (p := p) (by omega) h1
      obtain ⟨J4, e4, c1, c2⟩ := ih (p + 1) J3 (by omega) (by omega) (fun k v hk hv => by rw [b1 k v hk hv, Nat.add_sub_cancel]) (fun a ha => by rw [b2 a ha, h2 a ha])
      refine ⟨J4, ?_, c1, c2⟩
      rw [e_X11_waysOf_l69]
      unfold s_X11_waysOf_l69_st
      simp (disch := omega) only [w32_id, if_neg, e3, ifT]
      exact e4
  obtain ⟨J2, e2, b1, b2⟩ := parts d 1 J1 (by omega) (by omega) (fun k v hk hv => a1 k v (by omega) (by omega)) a2
  have e2' : s_X11_waysOf_l69 m w' r d 1 (sh, I, J1) = s_X11_waysOf_b146 m w' r (sh, I, J2) := e2
  rw [e2']
  refine ⟨J2, ?_, b2⟩
  unfold s_X11_waysOf_b146 s_X11_waysOf_l152
  refine whileO_tr (r + 1) (fun i => (wyS d w' i, (i : Int), (sh, I, J2))) rfl (fun i hi => ?_) ?_
  · have o := b1 i w' (by omega) (Nat.le_refl _)
    unfold s_X11_waysOf_l152_st
    dsimp only
    simp (disch := omega) only [bsome, t_ck T, t_gI T, t_pI T, t_gJ T, t_pJ T, tR_ways T, tA_ways T, tU_ways T, w32_id, if_neg, o, ifT]
    rfl
  · unfold s_X11_waysOf_l152_st
    dsimp only
    simp (disch := omega) only [w32_id, if_pos, ifT]
theorem t_count (T : TL sh m) {r d k : Int} (hr : i32 r) (hd : i32 d) (hk : i32 k) :
    (((0 ≤ r ∧ r ≤ 12) ∧ (1 ≤ d ∧ d ≤ 8) ∧ (0 ≤ k ∧ k ≤ 96)) → QG (s_X11_count m r d k (sh, I, J)) sh I J m (cntP r d k)) ∧
    (¬((0 ≤ r ∧ r ≤ 12) ∧ (1 ≤ d ∧ d ≤ 8) ∧ (0 ≤ k ∧ k ≤ 96)) → QB (s_X11_count m r d k (sh, I, J)) sh I J m 1) := by
  have e1 := x_in (lo := 0) (hi := 12) hr ⟨by omega, by omega⟩ ⟨by omega, by omega⟩ (sh, thr I m 0, J)
  have e2 := x_in (lo := 1) (hi := 8) hd ⟨by omega, by omega⟩ ⟨by omega, by omega⟩ (sh, thr I m 0, J)
  have e3 := x_in (lo := 0) (hi := 96) hk ⟨by omega, by omega⟩ ⟨by omega, by omega⟩ (sh, thr I m 0, J)
  refine ⟨fun h => ?_, fun h => ?_⟩
  · obtain ⟨h1, h2, h3⟩ := h
    rw [if_pos h1] at e1
    rw [if_pos h2] at e2
    rw [if_pos h3] at e3
    have hdr : d * r ≤ 8 * 12 := Int.mul_le_mul h2.2 h1.2 h1.1 (by omega)
    have hdr0 : 0 ≤ d * r := Int.mul_nonneg (by omega) h1.1
    unfold s_X11_count cntP
    simp (disch := omega) only [t_thr T, bsome, e1, e2, e3, w32_id (x := 1), if_neg, ifT]
    unfold s_X11_count_b41
    obtain ⟨v, hv⟩ : ∃ v, d * r - k = v := ⟨_, rfl⟩
    rw [hv]
    simp (disch := omega) only [t_ck T, bsome, t_if0, w32_id (x := 0), w32_id (x := v), if_pos, ifT]
    by_cases h4 : v < 0
    · rw [if_pos h4, if_pos (Or.inl h4)]
      exact ⟨_, _, rfl, HK.refl, HJ.refl⟩
    rw [if_neg h4, rmI_m (by omega) (by omega) (by omega) (by omega), bsome, Int.tmod_eq_emod_of_nonneg (by omega), w32_id (by omega) (by omega)]
    by_cases h5 : v % 2 = 0
    · rw [if_pos h5, if_neg (by omega)]
      have ed : dvI v 2 = some (v / 2) := by
        unfold dvI
        rw [w32_id (by omega) (by omega), w32_id (by omega) (by omega), if_neg (by omega), Int.tdiv_eq_ediv_of_nonneg (by omega)]
      obtain ⟨J1, c1, c2⟩ := t_waysOf (I := thr I m 0) (J := J) T (w := v / 2) (r := r.toNat) (d := d.toNat) (by omega) (by omega) (by omega)
      obtain ⟨J2, c3, c4⟩ := t_waysOf (I := thr I m 0) (J := J1) T (w := v / 2 - 1) (r := r.toNat) (d := d.toNat) (by omega) (by omega) (by omega)
      rw [Int.toNat_of_nonneg h1.1, Int.toNat_of_nonneg (show 0 ≤ d by omega)] at c1 c3
      simp (disch := omega) only [t_ck T, bsome, ed, c1, c3]
      exact ⟨_, _, rfl, HK.refl, fun a ha => by rw [c4 a (by omega), c2 a (by omega)]⟩
    · rw [if_neg h5, if_pos (Or.inr h5)]
      exact ⟨_, _, rfl, HK.refl, HJ.refl⟩
  · have key : s_X11_count m r d k (sh, I, J) = s_X11_count_b36 m r d k m (sh, thr I m 0, J) := by
      unfold s_X11_count
      simp (disch := omega) only [t_thr T, bsome, e1]
      by_cases h1 : 0 ≤ r ∧ r ≤ 12
      · rw [if_pos h1, if_neg (show ¬ w32 1 = 0 by decide), e2, bsome]
        dsimp only
        by_cases h2 : 1 ≤ d ∧ d ≤ 8
        · rw [if_pos h2, if_neg (show ¬ w32 1 = 0 by decide), e3, bsome]
          dsimp only
          rw [if_neg (fun h3 => h ⟨h1, h2, h3⟩), if_pos (show w32 0 = 0 from rfl)]
        · rw [if_neg h2, if_pos (show w32 0 = 0 from rfl)]
      · rw [if_neg h1, if_pos (show w32 0 = 0 from rfl)]
    rw [key]
    unfold s_X11_count_b36 s_X11_count_b41
    simp (disch := omega) only [t_ck T, bsome, t_if1 T, w32_id, if_neg, thr_thr, ifT]
    exact ⟨_, _, _, rfl, HK.refl, HJ.refl⟩
end TCn
