/-! the component: rows of what signs make of drawn forms -/
set_option maxRecDepth 100000
/-- what a turn touches: the desk, shelves, what is drawn, its row -/
def wS (x a0 a : Nat) : Prop := vS x 0 a ∨ aF (x + 513) a ∨ a = a0
section CSp
variable {sh : Sh} {I J : Nat → Int → Int} {x : Nat} {p : Int} {W : Int → Int}
/-- a form is drawn -/
theorem x1_draw (L : CL sh x) (hp : Pp p) {d : Nat} (hd : d ≤ 8) {set seed many width s k : Int} {kk : Nat} {I1 : Nat → Int → Int} (hI1 : I1 (x + 5 + 1) 0 = p) (hdeg : I1 (x + 513) 1 = d) :
    ∃ I', s_X1_spans_l57 x set d seed many width s (drS seed (kk * (d + 1))) k 0 (sh, I1, J) = s_X1_spans_b111 x set d seed many width s (drS seed ((kk + 1) * (d + 1))) k (sh, I', J) ∧ FM I' (x + 513) p (drF p seed d kk).1 (drF p seed d kk).2 ∧ AF (aF (x + 513)) I1 I' := by
  have hb := hp.b
  have D := L.dl
  have G := L.fd
  have drm : ∀ q, drV p seed q % p = drV p seed q := fun q => emod_emod_ _ _
  have key : ∀ (q i : Nat) (I2 : Nat → Int → Int), i + q = d + 1 → I2 (x + 513) 1 = d → (∀ j : Nat, j < i → I2 (x + 513 + 1) j = drV p seed (kk * (d + 1) + j)) → AF (aF (x + 513)) I1 I2 →
      ∃ I', s_X1_spans_l57 x set d seed many width s (drS seed (kk * (d + 1) + i)) k i (sh, I2, J) = s_X1_spans_b111 x set d seed many width s (drS seed ((kk + 1) * (d + 1))) k (sh, I', J) ∧ FM I' (x + 513) p (drF p seed d kk).1 (drF p seed d kk).2 ∧ AF (aF (x + 513)) I1 I' := by
    intro q
    induction q with
    | zero =>
      intro i I2 hi hdg h1 h2
      have ei : kk * (d + 1) + i = (kk + 1) * (d + 1) := by rw [Nat.succ_mul]; omega
      refine ⟨I2, ?_, ⟨hdg, fun j u v => ?_⟩, h2⟩
      · rw [e_X1_spans_l57]
        unfold s_X1_spans_l57_st
        rw [w32_id (x := (d : Int)) (by omega) (by omega), w32_id (x := (i : Int)) (by omega) (by omega), if_pos (by omega), ei]
        cases s_X1_spans_b111 x set d seed many width s (drS seed ((kk + 1) * (d + 1))) k (sh, I2, J) <;> rfl
      · have v : j ≤ d := v
        have := h1 j.toNat (by omega)
        rw [Int.toNat_of_nonneg u] at this
        rw [this]
        show _ = drV p seed (kk * (d + 1) + j.toNat) % p
        rw [drm]
    | succ q ih =>
      intro i I2 hi hdg h1 h2
      have hI2 : I2 (x + 5 + 1) 0 = p := by rw [h2 _ (by omega)]; exact hI1
      have hv := anI_b (srI (drS seed (kk * (d + 1) + i + 1)) 16) (show (0 : Int) ≤ 32767 by decide) (show (32767 : Int) < 2147483648 by decide)
      have er : rmI (anI (urI (1103515245 * drS seed (kk * (d + 1) + i) + 12345) 16) 32767) p = some (drV p seed (kk * (d + 1) + i)) := by
        rw [ur_sr]
        show rmI (anI (srI (drS seed (kk * (d + 1) + i + 1)) 16) 32767) p = _
        rw [rmI_m (by omega) (by omega) (by omega) (by omega), Int.tmod_eq_emod_of_nonneg (by omega)]
        rfl
      obtain ⟨I3, e3, k1, k2, k3, k4⟩ := f_put (I := I2) (J := J) G (k := (i : Int)) (v := drV p seed (kk * (d + 1) + i)) (by omega) (by omega)
      obtain ⟨I', z1, z2, z3⟩ := ih (i + 1) I3 (by omega) (by rw [k2]; exact hdg) (fun j hj => by
        by_cases e : j = i
        · rw [e, k1]
        · rw [k3 _ (by omega)]
          exact h1 j (by omega)) (h2.trans k4)
      refine ⟨I', ?_, z2, z3⟩
      rw [← z1, e_X1_spans_l57]
      unfold s_X1_spans_l57_st
      rw [w32_id (x := (d : Int)) (by omega) (by omega), w32_id (x := (i : Int)) (by omega) (by omega), if_neg (by omega), l_dr L, bsome, f_gR G, bsome, l_dk L, bsome, d_f D, bsome, gI_m D.ff, bsome, hI2, er, bsome, e3, bsome]
      rfl
  exact key (d + 1) 0 I1 (by omega) hdeg (fun j hj => by omega) AF.refl
theorem rwV_at {p seed : Int} {d e k i : Nat} {n : Nat} {t : Tr n} {v : Fo} (h : Tr.val (drF p seed d k) n t = some v) (hi : i ≤ e) : rwV p seed d e n t (((e + 1) * k + i : Nat) : Int) = v.2 i := by
  unfold rwV
  rw [Int.toNat_natCast]
  have h1 : ((e + 1) * k + i) / (e + 1) = k := by
    rw [Nat.mul_add_div (by omega), Nat.div_eq_of_lt (by omega), Nat.add_zero]
  have h2 : ((e + 1) * k + i) % (e + 1) = i := by
    rw [Nat.mul_add_mod, Nat.mod_eq_of_lt (by omega)]
  rw [h1, h2, h]
  rfl
/-- one turn -/
theorem x1_turn (L : CL sh x) (hI : I (x + 5 + 1) 0 = p) (hp : Pp p) {π : Nat → Nat} (hπ : RP2 sh x π) {d many s a n k : Nat} {w set seed : Int} {t : Tr n} (hd : d ≤ 8) (hm : many < 8) (hs : s < 8) (ha : sh.2.2.2 (x + 16 + 11) s = some a) (hS : SA sh I n t a) (hwf : Tr.wf n t) (hl : Tr.lv n t ≤ 20) (hn : n ≤ 200) (hk : k < 12) (hw : -1 ≤ w ∧ w ≤ 40) :
    (Tr.dg d n t = none → ∃ I', s_X1_spans_l39_st x set d seed many w s (drS seed (k * (d + 1))) k (sh, I, J) = some (.inr (.inr (-1, (sh, I', J)))) ∧ AF (wS x (x + 516 + π many)) I I') ∧
    (∀ e, Tr.dg d n t = some e → (w ≠ -1 ∧ w ≠ e) → ∃ I', s_X1_spans_l39_st x set d seed many w s (drS seed (k * (d + 1))) k (sh, I, J) = some (.inr (.inr (-1, (sh, I', J)))) ∧ AF (wS x (x + 516 + π many)) I I') ∧
    (∀ e, Tr.dg d n t = some e → ¬(w ≠ -1 ∧ w ≠ e) → e ≤ 40 ∧ ∃ I', s_X1_spans_l39_st x set d seed many w s (drS seed (k * (d + 1))) k (sh, I, J) = some (.inl ((e : Int), drS seed ((k + 1) * (d + 1)), (k : Int) + 1, (sh, I', J))) ∧
      (∀ i : Nat, i ≤ e → I' (x + 516 + π many) (((e + 1) * k + i : Nat) : Int) = rwV p seed d e n t (((e + 1) * k + i : Nat) : Int) % p) ∧ (∀ j : Nat, j < (e + 1) * k → I' (x + 516 + π many) j = I (x + 516 + π many) j) ∧ AF (wS x (x + 516 + π many)) I I') := by
  have hb := hp.b
  have D := L.dl
  have G := L.fd
  have T := L.st
  have S0 : FA sh (x + 550) := L.cv.fs (k := 0) (by omega)
  have bm := (hπ.1 many hm).1
  have z0 : w32 0 = 0 := rfl
  have z1 : ¬ w32 1 = 0 := by decide
  obtain ⟨I1, e1, r1, -, f1⟩ := x8_nought (I := I) (J := J) G p (d := (d : Int)) (by omega)
  have hI1 : I1 (x + 5 + 1) 0 = p := by rw [f1 _ (by omega)]; exact hI
  obtain ⟨I2, e2, r2, f2⟩ := x1_draw (J := J) L hp hd (set := set) (seed := seed) (many := many) (width := w) (s := s) (k := k) (kk := k) hI1 r1.1
  have f12 : AF (xS x) I I2 := (f1.trans f2).mono (fun b hb => by unfold xS; omega)
  have hI2 : I2 (x + 5 + 1) 0 = p := by rw [xS.f f12]; exact hI
  obtain ⟨F, hF⟩ : ∃ F, drF p seed d k = F := ⟨_, rfl⟩
  have hF1 : F.1 = d := by rw [← hF]; rfl
  rw [hF] at r2
  obtain ⟨I3, e3, r3, f3⟩ := x1_valueOf (J := J) L hI2 hp (F := F) (by omega) G (by omega) r2 (L.sa f12 hS) hwf hl hn
  have hval := Tr.val_dg F n t
  rw [hF1] at hval
  have e4 := x8_val1 (I := I3) (J := J) S0 (fun v h => Tr.val_d (by omega) _ _ v h) r3
  have fr : AF (wS x (x + 516 + π many)) I I3 := (((f1.trans f2).mono (fun b hb => by unfold wS; omega)).trans (f3.mono (fun b hb => Or.inl hb)))
  have run : s_X1_spans_l39_st x set d seed many w s (drS seed (k * (d + 1))) k (sh, I, J) = (if w32 (if Tr.val F n t = none then 0 else 1) = 0 then some (.inr (.inr (-1, (sh, I3, J)))) else if w32 w = w32 (-1) then (gI (sh, I3, J) 6 (x + 550) 1).bind fun v22 => s_X1_spans_l167 x set d seed many v22 s (drS seed ((k + 1) * (d + 1))) k (x + 550) 0 (sh, I3, J) else (gI (sh, I3, J) 6 (x + 550) 1).bind fun v29 => if w32 v29 = w32 w then (gI (sh, I3, J) 6 (x + 550) 1).bind fun v31 => s_X1_spans_l167 x set d seed many v31 s (drS seed ((k + 1) * (d + 1))) k (x + 550) 0 (sh, I3, J) else some (.inr (.inr (-1, (sh, I3, J))))) := by
    unfold s_X1_spans_l39_st
    rw [show w32 12 = 12 from rfl, w32_id (x := (k : Int)) (by omega) (by omega), if_neg (by omega), l_dr L, bsome, f_ck G, bsome, e1, bsome, e2]
    unfold s_X1_spans_b111
    rw [l_st L, bsome, s_sg T, bsome, s_sign T hs ha, bsome, l_dr L, bsome, l_ck L, bsome, e3, bsome]
    dsimp only
    rw [f_ck S0, bsome, e4, bsome]
  -- the numbers go into the row
  have fill : ∀ (v : Fo), Tr.val F n t = some v → v.1 ≤ 40 → ∃ I', s_X1_spans_l167 x set d seed many v.1 s (drS seed ((k + 1) * (d + 1))) k (x + 550) 0 (sh, I3, J) = some (.inl ((v.1 : Int), drS seed ((k + 1) * (d + 1)), (k : Int) + 1, (sh, I', J))) ∧
      (∀ i : Nat, i ≤ v.1 → I' (x + 516 + π many) (((v.1 + 1) * k + i : Nat) : Int) = rwV p seed d v.1 n t (((v.1 + 1) * k + i : Nat) : Int) % p) ∧ (∀ j : Nat, j < (v.1 + 1) * k → I' (x + 516 + π many) j = I (x + 516 + π many) j) ∧ AF (fun b => b = x + 516 + π many) I3 I' := by
    intro v hv hv40
    rw [hv] at r3
    have r3 : FM I3 (x + 550) p v.1 v.2 := r3
    have hidx : (v.1 + 1) * k ≤ 41 * 11 := Nat.mul_le_mul (by omega) (by omega)
    have key : ∀ (q i : Nat) (I4 : Nat → Int → Int), i + q = v.1 + 1 → (∀ j : Nat, j < i → I4 (x + 516 + π many) (((v.1 + 1) * k + j : Nat) : Int) = v.2 j % p) → (∀ j : Nat, j < (v.1 + 1) * k → I4 (x + 516 + π many) j = I (x + 516 + π many) j) → AF (fun b => b = x + 516 + π many) I3 I4 →
        ∃ I', s_X1_spans_l167 x set d seed many v.1 s (drS seed ((k + 1) * (d + 1))) k (x + 550) i (sh, I4, J) = some (.inl ((v.1 : Int), drS seed ((k + 1) * (d + 1)), (k : Int) + 1, (sh, I', J))) ∧ (∀ j : Nat, j < v.1 + 1 → I' (x + 516 + π many) (((v.1 + 1) * k + j : Nat) : Int) = v.2 j % p) ∧ (∀ j : Nat, j < (v.1 + 1) * k → I' (x + 516 + π many) j = I (x + 516 + π many) j) ∧ AF (fun b => b = x + 516 + π many) I3 I' := by
      intro q
      induction q with
      | zero =>
        intro i I4 hi h1 h2 h3
        refine ⟨I4, ?_, fun j hj => h1 j (by omega), h2, h3⟩
        rw [e_X1_spans_l167]
        unfold s_X1_spans_l167_st
        rw [w32_id (x := (v.1 : Int)) (by omega) (by omega), w32_id (x := (i : Int)) (by omega) (by omega), if_pos (by omega)]
        rfl
      | succ q ih =>
        intro i I4 hi h1 h2 h3
        have g3 := r3.keep h3 (by omega) (by omega)
        have eidx : ((v.1 : Int) + 1) * (k : Int) + i = (((v.1 + 1) * k + i : Nat) : Int) := by
          rw [Int.natCast_add, Int.natCast_mul]
          rfl
        obtain ⟨I5, hI5⟩ : ∃ I5, up1 I4 (x + 516 + π many) (upz (I4 (x + 516 + π many)) (((v.1 + 1) * k + i : Nat) : Int) (v.2 i % p)) = I5 := ⟨_, rfl⟩
        obtain ⟨I', z1, z2, z3, z4⟩ := ih (i + 1) I5 (by omega) (fun j hj => by
          rw [← hI5, up1_s]
          by_cases e : j = i
          · rw [e, upz_s]
          · rw [upz_n _ _ (by omega)]
            exact h1 j (by omega)) (fun j hj => by
          rw [← hI5, up1_s, upz_n _ _ (by omega)]
          exact h2 j hj) (h3.trans (by rw [← hI5]; exact AF.one rfl))
        refine ⟨I', ?_, z2, z3, z4⟩
        rw [← z1, e_X1_spans_l167]
        unfold s_X1_spans_l167_st
        rw [w32_id (x := (v.1 : Int)) (by omega) (by omega), w32_id (x := (i : Int)) (by omega) (by omega), if_neg (by omega), l_rw L, bsome, rw_r L hπ hm, bsome, f_gR S0, bsome, f_aI S0 (by omega) (by omega), bsome, g3.2 i (by omega) (by omega), eidx, rw_u L hπ hm (by omega) (by omega), bsome, hI5]
        rfl
    obtain ⟨I', z1, z2, z3, z4⟩ := key (v.1 + 1) 0 I3 (by omega) (fun j hj => by omega) (fun j hj => by rw [f3 _ (by unfold vS dS; omega), f2 _ (by omega), f1 _ (by omega)]) AF.refl
    refine ⟨I', z1, fun i hi => ?_, z3, z4⟩
    rw [z2 i (by omega), rwV_at (v := v) (by rw [hF]; exact hv) hi]
  refine ⟨fun h => ?_, fun e h hw2 => ?_, fun e h hw2 => ?_⟩
  · rw [h] at hval
    have hn0 : Tr.val F n t = none := by
      cases hv : Tr.val F n t with
      | none => rfl
      | some v => rw [hv] at hval; cases hval
    rw [run, if_pos hn0, if_pos z0]
    exact ⟨I3, rfl, fr⟩
  · rw [h] at hval
    obtain ⟨v, hv, he⟩ := ms_ hval
    have v40 := Tr.val_d (F := F) (by omega) _ _ v hv
    rw [hv] at r3
    have r3 : FM I3 (x + 550) p v.1 v.2 := r3
    rw [run, if_neg (show ¬ Tr.val F n t = none by rw [hv]; simp), if_neg z1, w32_id (x := w) (by omega) (by omega), show w32 (-1) = -1 from rfl, if_neg hw2.1, f_gI S0, bsome, r3.1, w32_id (x := (v.1 : Int)) (by omega) (by omega), if_neg (by omega)]
    exact ⟨I3, rfl, fr⟩
  · rw [h] at hval
    obtain ⟨v, hv, he⟩ := ms_ hval
    have he : v.1 = e := he
    have v40 := Tr.val_d (F := F) (by omega) _ _ v hv
    obtain ⟨I4, g1, g2, g3, g4⟩ := fill v hv v40
    rw [hv] at r3
    have r3 : FM I3 (x + 550) p v.1 v.2 := r3
    rw [he] at g1 g2 g3
    refine ⟨by omega, I4, ?_, g2, g3, fr.trans (g4.mono (fun b hb => by unfold wS; omega))⟩
    rw [run, if_neg (show ¬ Tr.val F n t = none by rw [hv]; simp), if_neg z1, w32_id (x := w) (by omega) (by omega), show w32 (-1) = -1 from rfl]
    by_cases c : w = -1
    · rw [if_pos c, f_gI S0, bsome, r3.1, he]
      exact g1
    · rw [if_neg c, f_gI S0, bsome, r3.1, w32_id (x := (v.1 : Int)) (by omega) (by omega), if_pos (by omega), bsome, he]
      exact g1
/-- all turns of a sign -/
theorem x1_sign (L : CL sh x) (hp : Pp p) {π : Nat → Nat} (hπ : RP2 sh x π) {d many s a n : Nat} {w set seed : Int} {t : Tr n} (hd : d ≤ 8) (hm : many < 8) (hs : s < 8) (ha : sh.2.2.2 (x + 16 + 11) s = some a) (hwf : Tr.wf n t) (hl : Tr.lv n t ≤ 20) (hn : n ≤ 200) (hw : -1 ≤ w ∧ w ≤ 40) (hI : I (x + 5 + 1) 0 = p) (hS : SA sh I n t a) :
    (Tr.dg d n t = none → ∃ I', s_X1_spans_l39 x set d seed many w s seed 0 (sh, I, J) = some (.inr (-1, (sh, I', J))) ∧ AF (wS x (x + 516 + π many)) I I') ∧
    (∀ e, Tr.dg d n t = some e → (w ≠ -1 ∧ w ≠ e) → ∃ I', s_X1_spans_l39 x set d seed many w s seed 0 (sh, I, J) = some (.inr (-1, (sh, I', J))) ∧ AF (wS x (x + 516 + π many)) I I') ∧
    (∀ e, Tr.dg d n t = some e → ¬(w ≠ -1 ∧ w ≠ e) → e ≤ 40 ∧ ∃ I', s_X1_spans_l39 x set d seed many w s seed 0 (sh, I, J) = some (.inl ((many : Int) + 1, (e : Int), (s : Int) + 1, (sh, I', J))) ∧ (∀ j : Nat, j < 12 * (e + 1) → I' (x + 516 + π many) j = rwV p seed d e n t j % p) ∧ AF (wS x (x + 516 + π many)) I I') := by
  have bm := (hπ.1 many hm).1
  have st0 : ∀ z, s_X1_spans_l39_st x set d seed many w s seed 0 (sh, I, J) = some (.inr z) → s_X1_spans_l39 x set d seed many w s seed 0 (sh, I, J) = some z := by
    intro z h
    rw [e_X1_spans_l39, h]
    rfl
  have z9 : drS seed (0 * (d + 1)) = seed := by rw [Nat.zero_mul]; rfl
  obtain ⟨t1, t2, t3⟩ := x1_turn (J := J) (set := set) (seed := seed) (k := 0) L hI hp hπ hd hm hs ha hS hwf hl hn (by omega) hw
  rw [z9, show ((0 : Nat) : Int) = 0 from rfl] at t1 t2 t3
  refine ⟨fun h => ?_, fun e h hw2 => ?_, fun e h hw2 => ?_⟩
  · obtain ⟨I', e1, f1⟩ := t1 h
    exact ⟨I', st0 _ e1, f1⟩
  · obtain ⟨I', e1, f1⟩ := t2 e h hw2
    exact ⟨I', st0 _ e1, f1⟩
  · have e40 := (t3 e h hw2).1
    refine ⟨e40, ?_⟩
    have key : ∀ (q k : Nat) (w : Int) (I1 : Nat → Int → Int), k + q = 12 → ¬(w ≠ -1 ∧ w ≠ e) → (-1 ≤ w ∧ w ≤ 40) → (0 < k → w = e) → (∀ j : Nat, j < (e + 1) * k → I1 (x + 516 + π many) j = rwV p seed d e n t j % p) → AF (wS x (x + 516 + π many)) I I1 →
        ∃ I', s_X1_spans_l39 x set d seed many w s (drS seed (k * (d + 1))) k (sh, I1, J) = some (.inl ((many : Int) + 1, (e : Int), (s : Int) + 1, (sh, I', J))) ∧ (∀ j : Nat, j < 12 * (e + 1) → I' (x + 516 + π many) j = rwV p seed d e n t j % p) ∧ AF (wS x (x + 516 + π many)) I I' := by
      intro q
      induction q with
      | zero =>
        intro k w I1 hk hw2 hwb hwe h1 h2
        have hk12 : k = 12 := by omega
        refine ⟨I1, ?_, fun j hj => h1 j (by rw [hk12, Nat.mul_comm]; exact hj), h2⟩
        rw [e_X1_spans_l39]
        unfold s_X1_spans_l39_st s_X1_spans_b212
        rw [show w32 12 = 12 from rfl, w32_id (x := (k : Int)) (by omega) (by omega), if_pos (by omega), hwe (by omega)]
        rfl
      | succ q ih =>
        intro k w I1 hk hw2 hwb hwe h1 h2
        have h2x : AF (xS x) I I1 := h2.mono (fun b hb => by unfold wS vS dS at hb; unfold xS; omega)
        obtain ⟨-, -, t3⟩ := x1_turn (J := J) (set := set) (seed := seed) (k := k) (w := w) L (by rw [xS.f h2x]; exact hI) hp hπ hd hm hs ha (L.sa h2x hS) hwf hl hn (by omega) hwb
        obtain ⟨-, I2, e2, r2, o2, f2⟩ := t3 e h hw2
        obtain ⟨I', z1, z2, z3⟩ := ih (k + 1) e I2 (by omega) (by omega) (by omega) (fun _ => rfl) (fun j hj => by
          by_cases c : j < (e + 1) * k
          · rw [o2 j c]
            exact h1 j c
          · have hm1 : (e + 1) * (k + 1) = (e + 1) * k + (e + 1) := Nat.mul_succ _ _
            have := r2 (j - (e + 1) * k) (by omega)
            rw [show (e + 1) * k + (j - (e + 1) * k) = j by omega] at this
            exact this) (h2.trans f2)
        refine ⟨I', ?_, z2, z3⟩
        rw [e_X1_spans_l39, e2]
        exact z1
    have := key 12 0 w I (by omega) hw2 hw (fun h => by omega) (fun j hj => by omega) AF.refl
    rw [z9, show ((0 : Nat) : Int) = 0 from rfl] at this
    exact this
end CSp
