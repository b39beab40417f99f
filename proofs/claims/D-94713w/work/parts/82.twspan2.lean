/-! the twin: span, basis -/
set_option maxRecDepth 100000
/-- what is left of a row behind another one -/
def rd1 (p : Int) (L : Nat) (row v : Int → Int) : Int → Int := fun j => v j - v (ldZ p row L 0) * ivS p (row (ldZ p row L 0) % p) * row j
def rdN (p : Int) (L : Nat) (B : Nat → Int → Int) : Nat → (Int → Int) → Int → Int
  | 0, v => v
  | k + 1, v => rd1 p L (B k) (rdN p L B k v)
abbrev Tg : Type := Nat → (n : Nat) × Tr n
def bsR (p seed : Int) (d : Nat) (set : Int) (ts : Tg) : Nat → Nat → (Nat → Int → Int) → Nat → Int → Int → Option (Nat × Int)
  | 0, _, _, many, bits, _ => some (many, bits)
  | k + 1, s, B, many, bits, degs =>
    if anI (srI set s) 1 = 0 then bsR p seed d set ts k (s + 1) B many bits degs
    else match Tr.dg d (ts s).1 (ts s).2 with
      | none => none
      | some e =>
        if degs ≠ -1 ∧ degs ≠ e then none
        else if ldZ p (rdN p (12 * (e + 1)) B many (rwV p seed d e (ts s).1 (ts s).2)) (12 * (e + 1)) 0 < 12 * (e + 1) then
          bsR p seed d set ts k (s + 1) (fun r => if r = many then rdN p (12 * (e + 1)) B many (rwV p seed d e (ts s).1 (ts s).2) else B r) (many + 1) (orI bits (slI 1 s)) e
        else bsR p seed d set ts k (s + 1) B many bits e
def bsP (p seed : Int) (d : Nat) (set : Int) (ts : Tg) (n : Nat) : Option (Nat × Int) := bsR p seed d set ts n 0 (fun _ _ => 0) 0 0 (-1)
def spP : Option (Nat × Int) → Int
  | none => -1
  | some r => r.1
def baP : Option (Nat × Int) → Int
  | none => -1
  | some r => r.2
/-- how many bits -/
def bcV (x : Int) : Int :=
  anI (((anI (((anI (x - (anI (urI x 1) 1431655765)) 858993459) + (anI (urI (x - (anI (urI x 1) 1431655765)) 2) 858993459)) + (urI ((anI (x - (anI (urI x 1) 1431655765)) 858993459) + (anI (urI (x - (anI (urI x 1) 1431655765)) 2) 858993459)) 4)) 252645135) + (urI (anI (((anI (x - (anI (urI x 1) 1431655765)) 858993459) + (anI (urI (x - (anI (urI x 1) 1431655765)) 2) 858993459)) + (urI ((anI (x - (anI (urI x 1) 1431655765)) 858993459) + (anI (urI (x - (anI (urI x 1) 1431655765)) 2) 858993459)) 4)) 252645135) 8)) + (urI ((anI (((anI (x - (anI (urI x 1) 1431655765)) 858993459) + (anI (urI (x - (anI (urI x 1) 1431655765)) 2) 858993459)) + (urI ((anI (x - (anI (urI x 1) 1431655765)) 858993459) + (anI (urI (x - (anI (urI x 1) 1431655765)) 2) 858993459)) 4)) 252645135) + (urI (anI (((anI (x - (anI (urI x 1) 1431655765)) 858993459) + (anI (urI (x - (anI (urI x 1) 1431655765)) 2) 858993459)) + (urI ((anI (x - (anI (urI x 1) 1431655765)) 858993459) + (anI (urI (x - (anI (urI x 1) 1431655765)) 2) 858993459)) 4)) 252645135) 8)) 16)) 63
theorem bc_eq (x : Int) (μ : Me) : s_J10_bitCount x μ = some (bcV x, μ) := rfl
def pcB (b : Nat) : Nat := b % 2 + b / 2 % 2 + b / 4 % 2 + b / 8 % 2 + b / 16 % 2 + b / 32 % 2 + b / 64 % 2 + b / 128 % 2
theorem bc_all : ∀ b : Nat, b < 256 → bcV b = pcB b := by decide +kernel
theorem or_all : ∀ s : Nat, s < 8 → ∀ b : Nat, b < 2 ^ s → orI b (slI 1 s) = ((b + 2 ^ s : Nat) : Int) ∧ pcB (b + 2 ^ s) = pcB b + 1 := by decide +kernel
section TS2
variable {sh : Sh} {I J : Nat → Int → Int} {m : Nat} {p : Int}
theorem t_firstOf (T : TL sh m) (hp : Pp p) {at_ : Int} {L : Nat} {v : Int → Int} (hat : 0 ≤ at_) (hL : at_ + L ≤ 3936) (h24 : I m 24 = L) (hv : ∀ j : Int, 0 ≤ j → j < L → I (m + 9) (at_ + j) = v j % p) :
    s_X11_firstOf m at_ (sh, I, J) = some ((ldZ p v L 0 : Int), (sh, I, J)) := by
  have hpb := hp.b
  have key : ∀ k i : Nat, i + k = L → s_X11_firstOf_l2 m at_ i (sh, I, J) = some ((ldZ p v k i : Int), (sh, I, J)) := by
    intro k
    induction k with
    | zero =>
      intro i hi
      rw [e_X11_firstOf_l2]
      unfold s_X11_firstOf_l2_st
      simp (disch := omega) only [t_gI T, bsome, h24, w32_id, if_pos, ifT]
      rfl
    | succ k ih =>
      intro i hi
      have h1 := hv i (by omega) (by omega)
      have h2 := emod_b hp (v i)
      rw [e_X11_firstOf_l2]
      unfold s_X11_firstOf_l2_st ldZ
      simp (disch := omega) only [bsome, t_ck T, t_gI T, t_pI T, t_gJ T, t_pJ T, tR_rows T, tA_rows T, tU_rows T, h24, w32_id (x := (L : Int)), w32_id (x := (i : Int)), if_neg, h1, w32_id (x := v i % p), ifT]
      by_cases h : v i % p = 0
      · rw [if_pos h, if_pos h]
        exact ih (i + 1) (by omega)
      · rw [if_neg h, if_neg h]
        rfl
  exact key L 0 (by omega)
theorem t_isNew (T : TL sh m) (hI : I (m + 1) 0 = p) (hp : Pp p) {many L : Nat} {B : Nat → Int → Int} {v : Int → Int} (hm : many < 8) (hL : L ≤ 492) (h24 : I m 24 = L) (hB : ∀ r : Nat, r < many → (∀ j : Int, 0 ≤ j → j < L → I (m + 9) (492 * r + j) = B r j % p) ∧ ldZ p (B r) L 0 < L) (hv : ∀ j : Int, 0 ≤ j → j < L → I (m + 9) (492 * many + j) = v j % p) :
    ∃ I', s_X11_isNew m (492 * many) many (sh, I, J) = some (if ldZ p (rdN p L B many v) L 0 < L then 1 else 0, (sh, I', J)) ∧ SQ m I I' ∧ I' m = I m ∧ (∀ r : Nat, r < many → ∀ j : Int, 0 ≤ j → j < L → I' (m + 9) (492 * r + j) = B r j % p) ∧ (∀ j : Int, 0 ≤ j → j < L → I' (m + 9) (492 * many + j) = rdN p L B many v j % p) := by
  have hpb := hp.b
  have key : ∀ (k r : Nat) (I1 : Nat → Int → Int), r + k = many → (∀ a : Nat, a ≠ m + 9 → I1 a = I a) → (∀ q : Nat, q < many → ∀ j : Int, 0 ≤ j → j < L → I1 (m + 9) (492 * q + j) = B q j % p) → (∀ j : Int, 0 ≤ j → j < L → I1 (m + 9) (492 * many + j) = rdN p L B r v j % p) →
      ∃ I', s_X11_isNew_l2 m (492 * many) many r (sh, I1, J) = s_X11_isNew_b115 m (492 * many) (sh, I', J) ∧ (∀ a : Nat, a ≠ m + 9 → I' a = I a) ∧ (∀ q : Nat, q < many → ∀ j : Int, 0 ≤ j → j < L → I' (m + 9) (492 * q + j) = B q j % p) ∧ (∀ j : Int, 0 ≤ j → j < L → I' (m + 9) (492 * many + j) = rdN p L B many v j % p) := by
    intro k
    induction k with
    | zero =>
      intro r I1 hr h1 h2 h3
      have : r = many := by omega
      subst this
      refine ⟨I1, ?_, h1, h2, h3⟩
      rw [e_X11_isNew_l2]
      unfold s_X11_isNew_l2_st
      simp (disch := omega) only [w32_id (x := (r : Int)), if_pos, ifT]
      cases s_X11_isNew_b115 m (492 * r) (sh, I1, J) <;> rfl
    | succ k ih =>
      intro r I1 hr h1 h2 h3
      have hI1 : I1 (m + 1) 0 = p := by rw [h1 _ (by omega), hI]
      have g24 : I1 m 24 = L := by rw [h1 _ (by omega), h24]
      have hlt := (hB r (by omega)).2
      have e1 := t_firstOf (I := I1) (J := J) T hp (at_ := 492 * r) (L := L) (v := B r) (by omega) (by omega) g24 (h2 r (by omega))
      obtain ⟨ld, hld⟩ : ∃ ld, ldZ p (B r) L 0 = ld := ⟨_, rfl⟩
      rw [hld] at e1 hlt
      obtain ⟨V, hV⟩ : ∃ V, rdN p L B r v = V := ⟨_, rfl⟩
      rw [hV] at h3
      have o1 := h3 ld (by omega) (by omega)
      have o2 := h2 r (by omega) ld (by omega) (by omega)
      have bb := emod_b hp (B r ld)
      have e2 := t_inverse (I := I1) (J := J) T hI1 hp bb
      obtain ⟨s, hs⟩ : ∃ s, ivS p (B r ld % p) = s := ⟨_, rfl⟩
      have hsm : s % p = s := by rw [← hs]; exact ivS_m _
      rw [hs] at e2
      have e3 := t_timesM (I := I1) (J := J) T hI1 hp (V ld) s
      rw [hsm] at e3
      have hrd : rdN p L B (r + 1) v = fun j => V j - V ld * s * B r j := by
        show rd1 p L (B r) (rdN p L B r v) = _
        unfold rd1
        rw [hV, hld, hs]
      have hl : s_X11_isNew_l53 m (492 * many) many r (V ld * s % p) 0 (sh, I1, J) = some (.inl ((r : Int) + 1, (sh, up1 I1 (m + 9) (wr (I1 (m + 9)) (492 * many) L (fun i => (V i - V ld * s * B r i) % p)), J))) := by
        unfold s_X11_isNew_l53
        refine arr_loop (f := fun z : Int × Me => s_X11_isNew_l53_st m (492 * many) many r (V ld * s % p) z.1 z.2) (sh := sh) (I := I1) (J := J) (m + 9) (492 * many) 0 L (fun i => (V i - V ld * s * B r i) % p) ?_ ?_
        · intro i hi
          obtain ⟨I2, hI2⟩ : ∃ I2, up1 I1 (m + 9) (wr (I1 (m + 9)) (492 * many) i (fun i => (V i - V ld * s * B r i) % p)) = I2 := ⟨_, rfl⟩
          have i24 : I2 m 24 = L := by rw [← hI2, up1_n _ _ (by omega), g24]
          have ip : I2 (m + 1) 0 = p := by rw [← hI2, up1_n _ _ (by omega), hI1]
          have a1 : I2 (m + 9) (492 * many + i) = V i % p := by rw [← hI2, up1_s, wr_out (by omega), h3 i (by omega) (by omega)]
          have a2 : I2 (m + 9) (492 * r + i) = B r i % p := by rw [← hI2, up1_s, wr_out (by omega), h2 r (by omega) i (by omega) (by omega)]
          have e4 := t_timesM (I := I2) (J := J) T ip hp (V ld * s) (B r i)
          have e5 := t_lessM (I := I2) (J := J) T ip hp (V i) (V ld * s * B r i)
          unfold s_X11_isNew_l53_st
          dsimp only
          rw [hI2, Int.zero_add]
          simp (disch := omega) only [bsome, t_ck T, t_gI T, t_pI T, t_gJ T, t_pJ T, tR_rows T, tA_rows T, tU_rows T, i24, w32_id, if_neg, a1, a2, e4, e5, ifT]
          rw [← hI2, up1_s, up1_up1]
        · have i24 : up1 I1 (m + 9) (wr (I1 (m + 9)) (492 * many) L (fun i => (V i - V ld * s * B r i) % p)) m 24 = L := by rw [up1_n _ _ (by omega), g24]
          unfold s_X11_isNew_l53_st
          dsimp only
          simp (disch := omega) only [t_gI T, bsome, i24, w32_id, if_pos, ifT]
      obtain ⟨I2, hI2⟩ : ∃ I2, up1 I1 (m + 9) (wr (I1 (m + 9)) (492 * many) L (fun i => (V i - V ld * s * B r i) % p)) = I2 := ⟨_, rfl⟩
      rw [hI2] at hl
      have r9 : I2 (m + 9) = wr (I1 (m + 9)) (492 * many) L (fun i => (V i - V ld * s * B r i) % p) := by rw [← hI2, up1_s]
      obtain ⟨I3, e5, x1, x2, x3⟩ := ih (r + 1) I2 (by omega) (fun a ha => by rw [← hI2, up1_n _ _ ha, h1 a ha]) (fun q hq j a b => by rw [r9, wr_out (by omega)]; exact h2 q hq j a b) (fun j a b => by
        rw [r9, wr_in (by omega) (by omega), hrd, show (492 * (many : Int) + j - 492 * many).toNat = j.toNat by omega, Int.toNat_of_nonneg a])
      refine ⟨I3, ?_, x1, x2, x3⟩
      rw [e_X11_isNew_l2]
      unfold s_X11_isNew_l2_st
      simp (disch := omega) only [bsome, t_ck T, t_gI T, t_pI T, t_gJ T, t_pJ T, tR_rows T, tA_rows T, tU_rows T, w32_id (x := (many : Int)), w32_id (x := (r : Int)), if_neg, e1, o1, o2, e2, e3, hl, ifT]
      exact e5
  obtain ⟨I', e1, x1, x2, x3⟩ := key many 0 I (by omega) (fun _ _ => rfl) (fun q hq => (hB q hq).1) hv
  have g24 : I' m 24 = L := by rw [x1 _ (by omega), h24]
  have e2 := t_firstOf (I := I') (J := J) T hp (at_ := 492 * many) (L := L) (v := rdN p L B many v) (by omega) (by omega) g24 x3
  refine ⟨I', ?_, ⟨fun a _ _ _ h => x1 a h, fun j _ => by rw [x1 _ (by omega)]⟩, x1 _ (by omega), x2, x3⟩
  have e1' : s_X11_isNew_l2 m (492 * many) many 0 (sh, I, J) = s_X11_isNew_b115 m (492 * many) (sh, I', J) := e1
  have hlb := ldZ_b p (rdN p L B many v) L 0
  unfold s_X11_isNew
  rw [e1']
  unfold s_X11_isNew_b115
  simp (disch := omega) only [t_ck T, t_gI T, bsome, e2, g24, w32_id]
  by_cases h : ldZ p (rdN p L B many v) L 0 < L
  · rw [if_neg (by omega), if_pos h]
  · rw [if_pos (by omega), if_neg h]
theorem t_basisOf (T : TL sh m) {W : Int → Int} (hw : I (m + 1) = W) (hW : WI W) {set seed : Int} {d : Nat} (hd : d ≤ 8) {ts : Tg} (hts : ∀ s : Nat, (s : Int) < W 3 → SgW W s (ts s).1 (ts s).2) :
    ∃ I', s_X11_basisOf m set d seed (sh, I, J) = some (baP (bsP (W 0) seed d set ts (W 3).toNat), (sh, I', J)) ∧ HK m I I' ∧ ∀ r, bsP (W 0) seed d set ts (W 3).toNat = some r → 0 ≤ r.2 ∧ r.2 < 256 ∧ bcV r.2 = r.1 := by
  have hp := hW.pp
  have hpb := hp.b
  have hc3 := hW.c3
  obtain ⟨I1, e1, d1, o1⟩ := t_draws (I := I) (J := J) T (p := W 0) (by rw [hw]) hp hd seed
  have hw1 : I1 (m + 1) = W := by rw [o1 _ (by omega), hw]
  have k1 : HK m I I1 := ⟨fun a x y => o1 a (by omega), fun j _ => by rw [o1 _ (by omega)]⟩
  have key : ∀ (k s : Nat) (B : Nat → Int → Int) (many : Nat) (b : Nat) (degs : Int) (I2 : Nat → Int → Int), s + k = (W 3).toNat → many ≤ s → b < 2 ^ s → pcB b = many → (-1 ≤ degs ∧ degs ≤ 40) → SQ m I1 I2 →
      (degs = -1 → many = 0) → (∀ r : Nat, r < many → (∀ j : Int, 0 ≤ j → j < 12 * (degs + 1) → I2 (m + 9) (492 * r + j) = B r j % W 0) ∧ ldZ (W 0) (B r) (12 * (degs.toNat + 1)) 0 < 12 * (degs.toNat + 1)) →
      ∃ I', s_X11_basisOf_l18 m set d many b degs s (sh, I2, J) = some (baP (bsR (W 0) seed d set ts k s B many b degs), (sh, I', J)) ∧ SQ m I1 I' ∧ ∀ r, bsR (W 0) seed d set ts k s B many b degs = some r → 0 ≤ r.2 ∧ r.2 < 256 ∧ bcV r.2 = r.1 := by
    intro k
    induction k with
    | zero =>
      intro s B many b degs I2 hs hm hb hpc hdg q2 hz hB
      have hw2 : I2 (m + 1) = W := by rw [q2.1 _ (by omega) (by omega) (by omega) (by omega), hw1]
      have hb2 : b < 256 := Nat.lt_of_lt_of_le hb (Nat.pow_le_pow_right (by omega) (show s ≤ 8 by omega))
      refine ⟨I2, ?_, q2, fun r hr => ?_⟩
      · rw [e_X11_basisOf_l18]
        unfold s_X11_basisOf_l18_st
        simp (disch := omega) only [bsome, t_ck T, t_gI T, t_pI T, t_gJ T, t_pJ T, tR_world T, tA_world T, tU_world T, hw2, w32_id, if_pos, ifT]
        rfl
      · rw [← Option.some.inj (show some ((many, (b : Int)) : Nat × Int) = some r from hr)]
        refine ⟨by dsimp only; omega, by dsimp only; omega, ?_⟩
        show bcV b = many
        rw [bc_all b hb2, hpc]
    | succ k ih =>
      intro s B many b degs I2 hs hm hb hpc hdg q2 hz hB
      have hw2 : I2 (m + 1) = W := by rw [q2.1 _ (by omega) (by omega) (by omega) (by omega), hw1]
      have hs8 : s < 8 := by omega
      have hS := hts s (by omega)
      have ab := anI_b (srI set s) (show (0 : Int) ≤ 1 by decide) (show (1 : Int) < 2147483648 by decide)
      have hpow : b < 2 ^ (s + 1) := by rw [Nat.pow_succ]; omega
      have pre : s_X11_basisOf_l18_st m set d many b degs s (sh, I2, J) = if anI (srI set s) 1 = 0 then some (.inl ((many : Int), (b : Int), degs, (s : Int) + 1, (sh, I2, J))) else
          (s_X11_rowOf m s d (492 * many) degs (sh, I2, J)).bind fun q7 => if w32 q7.1 = 0 then some (.inr (-1, q7.2)) else (gR q7.2 9 m 4).bind fun v10 => (aI q7.2 101 v10 0).bind fun v11 => (ck q7.2 9 m).bind fun _ => (s_X11_isNew m (492 * many) many q7.2).bind fun q12 => if w32 q12.1 = 0 then some (.inl ((many : Int), (b : Int), v11, (s : Int) + 1, q12.2)) else some (.inl ((many : Int) + 1, orI b (slI 1 s), v11, (s : Int) + 1, q12.2)) := by
        unfold s_X11_basisOf_l18_st
        simp (disch := omega) only [bsome, t_ck T, t_gI T, t_pI T, t_gJ T, t_pJ T, tR_world T, tA_world T, tU_world T, hw2, w32_id (x := W 3), w32_id (x := (s : Int)), w32_id (x := anI (srI set s) 1), if_neg, ifT]
      unfold bsR
      rw [e_X11_basisOf_l18, pre]
      by_cases h0 : anI (srI set s) 1 = 0
      · rw [if_pos h0, if_pos h0]
        exact ih (s + 1) B many b degs I2 (by omega) (by omega) hpow hpc hdg q2 hz hB
      rw [if_neg h0, if_neg h0]
      obtain ⟨r1, r2⟩ := t_rowOf (I := I2) (J := J) T hw2 hp (s := s) (seed := seed) (at_ := 492 * many) (degs := degs) (by omega) hd hS (fun k hk => by rw [q2.1 _ (by omega) (by omega) (by omega) (by omega)]; exact d1 k hk) (by omega) hdg
      cases hdgv : Tr.dg d (ts s).1 (ts s).2 with
      | none =>
        obtain ⟨I3, e3, q3⟩ := r2 (Or.inl hdgv)
        rw [e3, bsome]
        exact ⟨I3, rfl, q2.trans q3, fun r hr => by cases hr⟩
      | some e =>
        dsimp only
        have he40 : e ≤ 40 := by
          have h9 := Tr.val_dg (drF (W 0) seed d 0) (ts s).1 (ts s).2
          have h8 : Tr.dg (drF (W 0) seed d 0).1 (ts s).1 (ts s).2 = some e := hdgv
          rw [h8] at h9
          obtain ⟨v, h2, h3⟩ := ms_ h9
          rw [← h3]
          exact Tr.val_d (F := drF (W 0) seed d 0) (show d ≤ 40 by omega) _ _ v h2
        by_cases hbad : degs ≠ -1 ∧ degs ≠ e
        · obtain ⟨I3, e3, q3⟩ := r2 (Or.inr ⟨e, hdgv, hbad⟩)
          rw [e3, bsome, if_pos hbad]
          exact ⟨I3, rfl, q2.trans q3, fun r hr => by cases hr⟩
        rw [if_neg hbad]
        obtain ⟨I3, e3, q3, z1, z2, z3, z4⟩ := r1 e hdgv (by omega)
        have hw3 : I3 (m + 1) = W := by rw [q3.1 _ (by omega) (by omega) (by omega) (by omega), hw2]
        have hB3 : ∀ r : Nat, r < many → (∀ j : Int, 0 ≤ j → j < ((12 * (e + 1) : Nat) : Int) → I3 (m + 9) (492 * r + j) = B r j % W 0) ∧ ldZ (W 0) (B r) (12 * (e + 1)) 0 < 12 * (e + 1) := by
          intro r hr
          have hde : degs = e := by
            by_cases h9 : degs = -1
            · have := hz h9; omega
            · omega
          obtain ⟨y1, y2⟩ := hB r hr
          rw [hde, Int.toNat_natCast] at y2
          refine ⟨fun j a c => ?_, y2⟩
          rw [z4 _ (by omega)]
          exact y1 j a (by omega)
        obtain ⟨I4, e4, q4, m4, B4, v4⟩ := t_isNew (I := I3) (J := J) T (p := W 0) (by rw [hw3]) hp (many := many) (L := 12 * (e + 1)) (B := B) (v := rwV (W 0) seed d e (ts s).1 (ts s).2) (by omega) (by omega) (by rw [z2]; omega) hB3 (fun j a c => z3 j a (by omega))
        obtain ⟨V, hV⟩ : ∃ V, rdN (W 0) (12 * (e + 1)) B many (rwV (W 0) seed d e (ts s).1 (ts s).2) = V := ⟨_, rfl⟩
        rw [hV] at e4 v4 ⊢
        have q24 := (q2.trans q3).trans q4
        rw [e3, bsome]
        simp (disch := omega) only [bsome, t_ck T, t_gI T, t_pI T, t_gJ T, t_pJ T, tR_deg T, tA_deg T, tU_deg T, w32_id (x := 1), if_neg, z1, e4, ifT]
        by_cases hn : ldZ (W 0) V (12 * (e + 1)) 0 < 12 * (e + 1)
        · rw [if_pos hn, if_pos hn, if_neg (show ¬ w32 1 = 0 by decide)]
          obtain ⟨or1, or2⟩ := or_all s hs8 b hb
          rw [or1]
          obtain ⟨I5, e5, q5, f5⟩ := ih (s + 1) (fun r => if r = many then V else B r) (many + 1) (b + 2 ^ s) e I4 (by omega) (by omega) (by rw [Nat.pow_succ]; omega) (by rw [or2, hpc]) (by omega) q24 (fun h => by omega) (fun r hr => by
            rw [Int.toNat_natCast]
            by_cases h9 : r = many
            · subst h9
              rw [if_pos rfl]
              exact ⟨fun j a c => v4 j a (by omega), hn⟩
            · rw [if_neg h9]
              exact ⟨fun j a c => B4 r (by omega) j a (by omega), (hB3 r (by omega)).2⟩)
          exact ⟨I5, e5, q5, f5⟩
        · rw [if_neg hn, if_neg hn, if_pos (show w32 0 = 0 from rfl)]
          obtain ⟨I5, e5, q5, f5⟩ := ih (s + 1) B many b e I4 (by omega) (by omega) hpow hpc (by omega) q24 (fun h => by omega) (fun r hr => by
            rw [Int.toNat_natCast]
            exact ⟨fun j a c => B4 r hr j a (by omega), (hB3 r hr).2⟩)
          exact ⟨I5, e5, q5, f5⟩
  obtain ⟨I', e2, q2, f2⟩ := key (W 3).toNat 0 (fun _ _ => 0) 0 0 (-1) I1 (by omega) (Nat.le_refl _) (by decide) rfl ⟨by omega, by omega⟩ SQ.refl (fun _ => rfl) (fun r hr => by omega)
  refine ⟨I', ?_, k1.trans q2.hk, f2⟩
  unfold s_X11_basisOf
  rw [t_ck T, bsome, e1, bsome]
  exact e2
theorem t_span (T : TL sh m) (hW : WI (I (m + 1))) {set d seed : Int} (hd : i32 d) {ts : Tg} (hts : ∀ s : Nat, (s : Int) < I (m + 1) 3 → SgW (I (m + 1)) s (ts s).1 (ts s).2) :
    ((1 ≤ d ∧ d ≤ 8) → QG (s_X11_span m set d seed (sh, I, J)) sh I J m (spP (bsP (I (m + 1) 0) seed d.toNat set ts (I (m + 1) 3).toNat)) ∧ QG (s_X11_basis m set d seed (sh, I, J)) sh I J m (baP (bsP (I (m + 1) 0) seed d.toNat set ts (I (m + 1) 3).toNat))) ∧
    (¬(1 ≤ d ∧ d ≤ 8) → QB (s_X11_span m set d seed (sh, I, J)) sh I J m 1 ∧ QB (s_X11_basis m set d seed (sh, I, J)) sh I J m 1) := by
  obtain ⟨W, hw⟩ : ∃ W, I (m + 1) = W := ⟨_, rfl⟩
  rw [hw] at hW hts ⊢
  have h0 : thr I m 0 (m + 1) = W := by rw [thr_n (by omega), hw]
  have e1 := x_in (lo := 1) (hi := 8) hd ⟨by omega, by omega⟩ ⟨by omega, by omega⟩ (sh, thr I m 0, J)
  refine ⟨fun h => ?_, fun h => ?_⟩
  · rw [if_pos h] at e1
    obtain ⟨d', rfl⟩ : ∃ d' : Nat, d = d' := ⟨d.toNat, by omega⟩
    rw [Int.toNat_natCast]
    obtain ⟨I', e2, k2, f2⟩ := t_basisOf (I := thr I m 0) (J := J) T h0 hW (set := set) (seed := seed) (d := d') (by omega) hts
    obtain ⟨R, hR⟩ : ∃ R, bsP (W 0) seed d' set ts (W 3).toNat = R := ⟨_, rfl⟩
    rw [hR] at e2 f2 ⊢
    constructor
    · unfold s_X11_span
      simp (disch := omega) only [t_thr T, bsome, e1, w32_id (x := 1), if_neg, ifT]
      unfold s_X11_span_b21
      simp (disch := omega) only [t_ck T, bsome, t_if0, w32_id (x := 0), if_pos, e2, ifT]
      cases R with
      | none =>
        rw [show baP none = -1 from rfl, if_neg (show ¬ 0 ≤ w32 (-1) by decide)]
        exact ⟨_, _, rfl, k2, HJ.refl⟩
      | some r =>
        obtain ⟨g1, g2, g3⟩ := f2 r rfl
        rw [show baP (some r) = r.2 from rfl, w32_id (by omega) (by omega), if_pos g1, bc_eq, bsome, g3]
        exact ⟨_, _, rfl, k2, HJ.refl⟩
    · unfold s_X11_basis
      simp (disch := omega) only [t_thr T, bsome, e1, w32_id (x := 1), if_neg, ifT]
      unfold s_X11_basis_b21
      simp (disch := omega) only [t_ck T, bsome, t_if0, w32_id (x := 0), if_pos, e2, ifT]
      exact ⟨_, _, rfl, k2, HJ.refl⟩
  · rw [if_neg h] at e1
    constructor
    · unfold s_X11_span
      simp (disch := omega) only [t_thr T, bsome, e1, w32_id (x := 0), if_pos, ifT]
      unfold s_X11_span_b21
      simp (disch := omega) only [t_ck T, bsome, t_if1 T, w32_id, if_neg, thr_thr, ifT]
      exact ⟨_, _, _, rfl, HK.refl, HJ.refl⟩
    · unfold s_X11_basis
      simp (disch := omega) only [t_thr T, bsome, e1, w32_id (x := 0), if_pos, ifT]
      unfold s_X11_basis_b21
      simp (disch := omega) only [t_ck T, bsome, t_if1 T, w32_id, if_neg, thr_thr, ifT]
      exact ⟨_, _, _, rfl, HK.refl, HJ.refl⟩
end TS2
