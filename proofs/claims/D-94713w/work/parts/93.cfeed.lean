/-! the component: table, field, feed, end -/
set_option maxRecDepth 100000
/-- nothing lies where nothing was made -/
def BD (sh : Sh) : Prop := ∀ a : Nat, sh.1.1 ≤ a → sh.2.1 a = 99
/-- refused, behind a memory sh1 -/
def CB2 {α : Type} (y : Option (Ex ⊕ α)) (sh sh1 : Sh) (I J : Nat → Int → Int) (k : Nat) : Prop := ∃ I' J', y = some (.inl (k, sh1.1.1, (exS sh1, I', J'))) ∧ ∀ a, a < sh.1.1 → I' a = I a ∧ J' a = J a
section CFe
variable {sh sh' : Sh} {I I' J : Nat → Int → Int} {x S : Nat} {p : Int} {W W' : Int → Int}
theorem CL.new (L : CL sh x) (hb : x + 677 < sh.1.1) {c : Nat} {l : Int} {N : Nat} : CL (shNw sh c l N) x := by
  obtain ⟨π0, a0⟩ := L.rp
  obtain ⟨π1, a1⟩ := L.st.ap
  obtain ⟨π2, a2⟩ := L.im.ap
  exact L.ext (fun a _ _ => ⟨up1_n _ _ (by omega), up1_n _ _ (by omega)⟩) (fun a _ _ _ _ _ _ _ => up1_n _ _ (by omega)) ⟨π0, a0.eq (up1_n _ _ (by omega))⟩ ⟨π1, a1.eq (up1_n _ _ (by omega))⟩ ⟨π2, a2.eq (up1_n _ _ (by omega))⟩
theorem SA.new (hBD : BD sh) {c : Nat} {l : Int} {N : Nat} (hc : c ≠ 10 ∧ c ≠ 12) {f : Int → Int} {n : Nat} {t : Tr n} {a : Nat} (h : SA sh I n t a) : SA (shNw sh c l N) (up1 I sh.1.1 f) n t a := by
  have ne : ∀ b, sh.2.1 b ≠ 99 → b ≠ sh.1.1 := fun b hb e => hb (by rw [e]; exact hBD _ (Nat.le_refl _))
  refine SA.keep (fun b hb => up1_n _ _ (fun e => ?_)) n t a (SA.ext (sh' := shNw sh c l N) (fun b hb => ⟨up1_n _ _ (ne b (by omega)), up1_n _ _ (ne b (by omega))⟩) n t a h)
  have : (shNw sh c l N).2.1 sh.1.1 = c := up1_s _ _ _
  rw [e, this] at hb
  omega
theorem SR.new (h : SR sh I S W) (hW : WI W) (hBD : BD sh) (hb : S + 244 < sh.1.1) {c : Nat} {l : Int} {N : Nat} (hc : c ≠ 10 ∧ c ≠ 12) {f : Int → Int} : SR (shNw sh c l N) (up1 I sh.1.1 f) S W :=
  h.q hW (fun _ _ _ => rfl) (fun a u v => up1_n _ _ (by omega)) ⟨up1_n _ _ (by omega), up1_n _ _ (by omega)⟩ (fun n t a g => SA.new hBD hc g)
theorem nC_m {c : Nat} {l : Int} {N : Nat} (h1 : 1 ≤ sh.1.2.1) (h2 : N ≤ sh.1.2.2) : nC (sh, I, J) c l N = some (sh.1.1, (shNw sh c l N, up1 I sh.1.1 (fun _ => 0), up1 J sh.1.1 (fun _ => 0))) := if_pos ⟨h1, h2⟩
theorem x7_ofI {d : Nat} (hf : sh.2.1 d = 5) (hI : I d 0 = p) (hp : Pp p) {a : Int} (ha : i32 a) : s_X7_of d (w32 a) (sh, I, J) = some (a % p, (sh, I, J)) := by
  unfold i32 at ha
  rw [w32_id ha.1 ha.2, x7_of hf hI hp (by omega) (by omega)]
theorem dtP_mod {p : Int} (a b c d : Int) : dtP (a % p) (b % p) (c % p) (d % p) % p = dtP a b c d % p := by
  unfold dtP
  rw [Int.sub_emod, ← Int.mul_emod, ← Int.mul_emod, ← Int.sub_emod]
theorem x_table (L : CL sh x) (R : Room sh) (hb : x + 694 < sh.1.1) (hBD : BD sh) (hS : SR sh I (x + 16) W) (hI : I (x + 5 + 1) 0 = W 0) (hW : WI W) {a b c d : Int} (ha : i32 a) (hb2 : i32 b) (hc : i32 c) (hd : i32 d) :
    (dtP a b c d % W 0 ≠ 0 → W 2 < 8 → CSt (s_X1_table x a b c d (sh, I, J)) sh (shNw sh 101 4 4) I J x (W 2) (addT W (a % W 0) (b % W 0) (c % W 0) (d % W 0))) ∧
    (dtP a b c d % W 0 = 0 → CB2 (s_X1_table x a b c d (sh, I, J)) sh (shNw sh 101 4 4) I J 0) ∧
    (dtP a b c d % W 0 ≠ 0 → W 2 = 8 → CB2 (s_X1_table x a b c d (sh, I, J)) sh (shNw sh 101 4 4) I J 2) := by
  have hp := hW.pp
  have hpb := hp.b
  have c2 := hW.c2
  have L1 : CL (shNw sh 101 4 4) x := L.new (by omega)
  have D1 := L1.dl
  have T1 := L1.st
  have R1 : Room (shNw sh 101 4 4) ∨ True := Or.inr trivial
  obtain ⟨sh1, hsh1⟩ : ∃ sh1, shNw sh 101 4 4 = sh1 := ⟨_, rfl⟩
  obtain ⟨A, hA⟩ : ∃ A, sh.1.1 = A := ⟨_, rfl⟩
  obtain ⟨J1, hJ1⟩ : ∃ J1, up1 J A (fun _ => 0) = J1 := ⟨_, rfl⟩
  have arA : AR sh1 A 101 4 := by
    rw [← hsh1, ← hA]
    exact ⟨up1_s _ _ _, up1_s _ _ _, by decide⟩
  have hR6 : 1 ≤ sh1.1.2.1 ∧ 6 ≤ sh1.1.2.2 := by
    rw [← hsh1]
    show 1 ≤ sh.1.2.1 - 1 ∧ 6 ≤ sh.1.2.2 - 4
    have h1 := R.1
    have h2 := R.2
    omega
  have first : nA (sh, I, J) 101 4 = some (A, (sh1, up1 I A (fun _ => 0), J1)) := by
    unfold nA
    rw [show w32 4 = 4 from rfl, if_pos (by omega), show (4 : Int).toNat = 4 from rfl, nC_m (by have := R.1; omega) (by have := R.2; omega), hsh1, hA, hJ1]
  rw [hsh1] at L1 D1 T1 ⊢
  rw [hA] at hb
  have sr0 : SR sh1 (up1 I A (fun _ => 0)) (x + 16) W := by
    rw [← hsh1, ← hA]
    exact hS.new hW hBD (by rw [hA]; omega) (by decide)
  -- the table is laid out
  obtain ⟨I2, hI2⟩ : ∃ I2, up1 I A (upz (upz (upz (upz (fun _ => 0) 0 (a % W 0)) 1 (b % W 0)) 2 (c % W 0)) 3 (d % W 0)) = I2 := ⟨_, rfl⟩
  have o2 : ∀ q, q ≠ A → I2 q = I q := fun q h => by rw [← hI2, up1_n _ _ h]
  have hpI : ∀ f : Int → Int, up1 I A f (x + 5 + 1) 0 = W 0 := fun f => by rw [up1_n _ _ (by omega)]; exact hI
  have tyA : sh1.2.1 A = 101 := arA.1
  have sr2 : SR sh1 I2 (x + 16) W := by
    refine sr0.q hW (fun _ _ _ => rfl) (fun q u v => by rw [o2 q (by omega), up1_n _ _ (by omega)]) ⟨rfl, rfl⟩ (fun n t q g => SA.keep (fun b hb => ?_) n t q g)
    have : b ≠ A := fun e => by rw [e, tyA] at hb; omega
    rw [o2 b this, up1_n _ _ this]
  have v0 : I2 A 0 = a % W 0 := by rw [← hI2, up1_s, upz_n _ _ (by decide), upz_n _ _ (by decide), upz_n _ _ (by decide), upz_s]
  have v1 : I2 A 1 = b % W 0 := by rw [← hI2, up1_s, upz_n _ _ (by decide), upz_n _ _ (by decide), upz_s]
  have v2 : I2 A 2 = c % W 0 := by rw [← hI2, up1_s, upz_n _ _ (by decide), upz_s]
  have v3 : I2 A 3 = d % W 0 := by rw [← hI2, up1_s, upz_s]
  have b0 := emod_b hp a
  have b1 := emod_b hp b
  have b2 := emod_b hp c
  have b3 := emod_b hp d
  have bd := emod_b hp (dtP a b c d)
  have run : s_X1_table x a b c d (sh, I, J) = (if dtP a b c d % W 0 = 0 then s_X1_table_b94 x A 0 (sh1, I2, J1) else s_X1_table_b94 x A 1 (sh1, I2, J1)) := by
    unfold s_X1_table
    rw [first, bsome]
    dsimp only
    rw [l_dk L1, bsome, d_f D1, bsome, d_ckf D1, bsome, x7_ofI D1.ff (hpI _) hp ha, bsome]
    dsimp only
    rw [uI_m arA (by omega) (by omega), bsome, l_dk L1, bsome, d_f D1, bsome, d_ckf D1, bsome, up1_s, up1_up1, x7_ofI D1.ff (hpI _) hp hb2, bsome]
    dsimp only
    rw [uI_m arA (by omega) (by omega), bsome, l_dk L1, bsome, d_f D1, bsome, d_ckf D1, bsome, up1_s, up1_up1, x7_ofI D1.ff (hpI _) hp hc, bsome]
    dsimp only
    rw [uI_m arA (by omega) (by omega), bsome, l_dk L1, bsome, d_f D1, bsome, d_ckf D1, bsome, up1_s, up1_up1, x7_ofI D1.ff (hpI _) hp hd, bsome]
    dsimp only
    rw [uI_m arA (by omega) (by omega), bsome, up1_s, up1_up1, hI2, aI_m arA (by omega) (by omega), bsome, aI_m arA (by omega) (by omega), bsome, aI_m arA (by omega) (by omega), bsome, aI_m arA (by omega) (by omega), bsome, v0, v1, v2, v3, l_ck L1, bsome, x1_detOf L1 (by rw [o2 _ (by omega)]; exact hI) hp (by omega) (by omega) (by omega) (by omega), bsome]
    dsimp only
    rw [dtP_mod, w32_id (x := dtP a b c d % W 0) (by omega) (by omega)]
  have h6 : I2 (x + 16) 6 = W 2 := sr2.1.1.2.2.1
  have ex1 : ∀ k : Nat, tE (sh1, I2, J1) k = some (k, sh1.1.1, (exS sh1, exI sh1 I2, exI sh1 J1)) := by
    intro k
    unfold tE nC
    rw [if_pos (show 1 ≤ sh1.1.2.1 ∧ 6 ≤ sh1.1.2.2 from hR6)]
    rfl
  have low : ∀ q, q < A → exI sh1 I2 q = I q ∧ exI sh1 J1 q = J q := by
    intro q hq
    have hs : sh1.1.1 = A + 1 := by rw [← hsh1, ← hA]; rfl
    unfold exI
    rw [hs, up1_n _ _ (by omega), up1_n _ _ (by omega), o2 q (by omega), ← hJ1, up1_n _ _ (by omega)]
    exact ⟨rfl, rfl⟩
  refine ⟨fun h h8 => ?_, fun h => ?_, fun h h8 => ?_⟩
  · rw [run, if_neg h]
    unfold s_X1_table_b94
    rw [x1_must1, xb_r, l_st L1, bsome, s_gI T1, bsome, h6, show w32 8 = 8 from rfl, w32_id (x := W 2) (by omega) (by omega), if_neg (by omega)]
    unfold s_X1_table_b114
    have ta := T1.ta (k := (W 2).toNat) (by omega)
    have st := s_table (I := I2) (J := J1) T1 (k := (W 2).toNat) (by omega)
    rw [Int.toNat_of_nonneg c2.1] at st
    have cp : cpI (sh1, I2, J1) A 0 (x + 16 + 3 + (W 2).toNat) 0 4 = some (sh1, up1 I2 (x + 16 + 3 + (W 2).toNat) (cpz (I2 A) (I2 (x + 16 + 3 + (W 2).toNat)) 0 0 4), J1) := by
      have l1 := arA.2.1
      have l2 := ta.2.1
      unfold cpI
      rw [show w32 0 = 0 from rfl, show w32 4 = 4 from rfl, if_pos]
      · rfl
      · exact ⟨arA.1, ta.1, by decide, by decide, by decide, by show (0 : Int) + 4 ≤ sh1.2.2.1 A; omega, by show (0 : Int) + 4 ≤ sh1.2.2.1 _; omega⟩
    rw [x1_mayBe1, xb_r, l_st L1, bsome, s_tb T1, bsome, bsome, s_gI T1, bsome, h6, st, bsome, cp, bsome]
    obtain ⟨I3, hI3⟩ : ∃ I3, up1 I2 (x + 16 + 3 + (W 2).toNat) (cpz (I2 A) (I2 (x + 16 + 3 + (W 2).toNat)) 0 0 4) = I3 := ⟨_, rfl⟩
    rw [hI3]
    have o3 : I3 (x + 16) = I2 (x + 16) := by rw [← hI3, up1_n _ _ (by omega)]
    have t3 : ∀ i : Int, 0 ≤ i → i < 4 → I3 (x + 16 + 3 + (W 2).toNat) i = I2 A i := fun i u v => by
      rw [← hI3, up1_s]
      unfold cpz
      rw [if_pos (by omega), show (0 : Int) + (i - 0) = i by omega]
    rw [l_st L1, bsome, s_gI T1, bsome, o3, h6, s_pI T1, bsome, o3]
    obtain ⟨I4, hI4⟩ : ∃ I4, up1 I3 (x + 16) (upz (I2 (x + 16)) 6 (W 2 + 1)) = I4 := ⟨_, rfl⟩
    rw [hI4, l_st L1, bsome, s_gI T1, bsome]
    have s4 : I4 (x + 16) = upz (I2 (x + 16)) 6 (W 2 + 1) := by rw [← hI4, up1_s]
    have o4 : ∀ q, q ≠ x + 16 → q ≠ x + 16 + 3 + (W 2).toNat → I4 q = I2 q := fun q u v => by rw [← hI4, up1_n _ _ u, ← hI3, up1_n _ _ v]
    have t4 : ∀ i : Int, 0 ≤ i → i < 4 → I4 (x + 16 + 3 + (W 2).toNat) i = I2 A i := fun i u v => by
      rw [← hI4, up1_n _ _ (by omega)]
      exact t3 i u v
    refine ⟨I4, J1, ?_, ?_, fun q q1 _ q3 => ?_, fun q hq => ?_⟩
    · rw [s4, upz_s, show W 2 + 1 - 1 = W 2 by omega]
    · have kind : ∀ q, sh1.2.1 q = 10 ∨ sh1.2.1 q = 12 → I4 q = I2 q := fun q hq => o4 q (fun e => by rw [e, T1.1] at hq; omega) (fun e => by rw [e, ta.1] at hq; omega)
      exact sr2.addT hW h8 (by rw [t4 0 (by omega) (by omega), v0]) (by rw [t4 1 (by omega) (by omega), v1]) (by rw [t4 2 (by omega) (by omega), v2]) (by rw [t4 3 (by omega) (by omega), v3]) s4 (fun q u v w => o4 q (by omega) w) ⟨rfl, rfl⟩ (fun n t q g => SA.keep kind n t q g)
    · rw [o4 q (by omega) (by omega), o2 q (by omega)]
    · rw [← hJ1, up1_n _ _ (by omega)]
  · rw [run, if_pos h]
    unfold CB2 s_X1_table_b94 s_X1_must
    rw [if_pos (show w32 0 = 0 from rfl), ex1, bsome, xb_l]
    exact ⟨_, _, rfl, fun q hq => low q (by omega)⟩
  · rw [run, if_neg h]
    unfold CB2 s_X1_table_b94
    rw [x1_must1, xb_r, l_st L1, bsome, s_gI T1, bsome, h6, show w32 8 = 8 from rfl, w32_id (x := W 2) (by omega) (by omega), if_pos (by omega)]
    unfold s_X1_table_b114 s_X1_mayBe
    rw [if_pos (show w32 0 = 0 from rfl), ex1, bsome, xb_l]
    exact ⟨_, _, rfl, fun q hq => low q (by omega)⟩
/-- the field -/
theorem WI.field (hW : WI W) (h : W 1 + W 2 = 0) {q : Int} (hq : Pp q) : WI (upz W 0 q) := by
  have c1 := hW.c1
  have c2 := hW.c2
  have c4 := hW.c4
  have c45 : W 4 + W 5 = 0 := by
    by_cases e : W 4 + W 5 = 0
    · exact e
    · have := (hW.a (a := 0) (by omega) (by omega)).1
      omega
  have o : ∀ k, k ≠ 0 → upz W 0 q k = W k := fun k hk => upz_n _ _ hk
  refine WI.mk (by rw [upz_s]; exact hq) (by rw [o 1 (by decide)]; exact c1) (by rw [o 2 (by decide)]; exact c2) (by rw [o 3 (by decide)]; exact hW.c3) (by rw [o 4 (by decide), o 5 (by decide)]; exact c4) (fun f u v => ?_) (fun t u v => ?_) (fun t u v => ?_)
  · rw [o 1 (by decide)] at v; omega
  · rw [o 2 (by decide)] at v; omega
  · rw [o 4 (by decide), o 5 (by decide)] at v; omega
theorem x_field (L : CL sh x) (R : Room sh) (hS : SR sh I (x + 16) W) (hW : WI W) {q : Int} (hq : i32 q) :
    (Pp q → W 1 + W 2 = 0 → ∃ I', s_X1_field x q (sh, I, J) = some (.inr (sh, I', J)) ∧ SR sh I' (x + 16) (upz W 0 q) ∧ I' (x + 5 + 1) 0 = q ∧ ∀ a, a ≠ x + 16 → a ≠ x + 5 + 1 → I' a = I a) ∧
    (¬ Pp q → CB (s_X1_field x q (sh, I, J)) sh I J 0) ∧ (Pp q → W 1 + W 2 ≠ 0 → CB (s_X1_field x q (sh, I, J)) sh I J 1) := by
  have c1 := hW.c1
  have c2 := hW.c2
  have c4 := hW.c4
  have T := L.st
  have D := L.dl
  unfold i32 at hq
  obtain ⟨h1, h2, h3, h4, h5⟩ := SR_iff.mp hS
  have h15 : I (x + 16) 5 = W 1 := h1.1.2.1
  have h16 : I (x + 16) 6 = W 2 := h1.1.2.2.1
  have yes : Pp q → s_X1_field x q (sh, I, J) = s_X1_field_b29 x q 1 (sh, I, J) := by
    intro h
    unfold s_X1_field s_X1_field_b24
    rw [w32_id hq.1 hq.2, show w32 11 = 11 from rfl, show w32 13 = 13 from rfl, show w32 17 = 17 from rfl, show w32 19 = 19 from rfl]
    rcases h with h | h | h | h
    · rw [if_pos h]
    · rw [if_neg (by omega), if_pos h]
    · rw [if_neg (by omega), if_neg (by omega), if_pos h]
    · rw [if_neg (by omega), if_neg (by omega), if_neg (by omega), if_pos h]
  refine ⟨fun h g => ?_, fun h => ?_, fun h g => ?_⟩
  · rw [yes h]
    unfold s_X1_field_b29
    rw [x1_must1, xb_r, l_st L, bsome, s_gI T, bsome, bsome, s_gI T, bsome, h15, h16, w32_id (x := W 1 + W 2) (by omega) (by omega), if_pos (by omega), bsome, s_pI T, bsome, l_dk L, bsome, d_f D, bsome, pI_m D.ff, bsome]
    obtain ⟨I1, hI1⟩ : ∃ I1, up1 I (x + 16) (upz (I (x + 16)) 4 q) = I1 := ⟨_, rfl⟩
    rw [hI1]
    obtain ⟨I2, hI2⟩ : ∃ I2, up1 I1 (x + 5 + 1) (upz (I1 (x + 5 + 1)) 0 q) = I2 := ⟨_, rfl⟩
    rw [hI2]
    have o2 : ∀ a, a ≠ x + 16 → a ≠ x + 5 + 1 → I2 a = I a := fun a u v => by rw [← hI2, up1_n _ _ v, ← hI1, up1_n _ _ u]
    have s2 : I2 (x + 16) = upz (I (x + 16)) 4 q := by rw [← hI2, up1_n _ _ (by omega), ← hI1, up1_s]
    have c45 : W 4 + W 5 = 0 := by
      by_cases e : W 4 + W 5 = 0
      · exact e
      · have := (hW.a (a := 0) (by omega) (by omega)).1
        omega
    have o : ∀ k, k ≠ 0 → upz W 0 q k = W k := fun k hk => upz_n _ _ hk
    have kind : ∀ a, sh.2.1 a = 10 ∨ sh.2.1 a = 12 → I2 a = I a := fun a ha => o2 a (fun e => by rw [e, T.1] at ha; omega) (fun e => by rw [e, D.ff] at ha; omega)
    refine ⟨I2, rfl, SR_iff.mpr ⟨?_, fun f hf => ?_, fun t ht => ?_, h4.ext hW (o 3 (by decide)) (fun j u v => o j (by omega)) rfl (fun n t a g => SA.keep kind n t a g), ⟨fun _ _ _ => 0, fun f hf => ?_, fun k hk => ?_⟩⟩, by rw [← hI2, up1_s, upz_s], o2⟩
    · unfold SRc at h1 ⊢
      rw [s2, upz_s, upz_s, o 1 (by decide), o 2 (by decide), o 3 (by decide), o 4 (by decide), o 5 (by decide), upz_n _ _ (by decide), upz_n _ _ (by decide), upz_n _ _ (by decide), upz_n _ _ (by decide), upz_n _ _ (by decide)]
      exact ⟨⟨rfl, h1.1.2⟩, h1.2⟩
    · rw [o 1 (by decide)] at hf; omega
    · rw [o 2 (by decide)] at ht; omega
    · rw [o 1 (by decide)] at hf; omega
    · rw [o 4 (by decide), o 5 (by decide)] at hk; omega
  · have no : s_X1_field x q (sh, I, J) = s_X1_field_b29 x q 0 (sh, I, J) := by
      unfold s_X1_field
      unfold Pp at h
      rw [w32_id hq.1 hq.2, show w32 11 = 11 from rfl, show w32 13 = 13 from rfl, show w32 17 = 17 from rfl, show w32 19 = 19 from rfl, if_neg (by omega), if_neg (by omega), if_neg (by omega), if_neg (by omega)]
    rw [no]
    unfold CB s_X1_field_b29
    rw [x1_must0 R, xb_l]
  · rw [yes h]
    unfold CB s_X1_field_b29
    rw [x1_must1, xb_r, l_st L, bsome, s_gI T, bsome, bsome, s_gI T, bsome, h15, h16, w32_id (x := W 1 + W 2) (by omega) (by omega), if_neg (by omega), tE_m R, bsome]
-- the reader's own
theorem r_ck (L : CL sh x) : ck (sh, I, J) 1 (x + 1) = some () := ck_m L.rl.1
theorem r_gI (L : CL sh x) (k : Int) : gI (sh, I, J) 1 (x + 1) k = some (I (x + 1) k) := gI_m L.rl.1 k
theorem r_pI (L : CL sh x) (k v : Int) : pI (sh, I, J) 1 (x + 1) k v = some (sh, up1 I (x + 1) (upz (I (x + 1)) k v), J) := pI_m L.rl.1 k v
theorem r_tp (L : CL sh x) : gR (sh, I, J) 1 (x + 1) 0 = some (x + 1 + 1) := gR_m L.rl.1 L.rl.2.1.1
theorem r_ta (L : CL sh x) {j : Int} (h0 : 0 ≤ j) (h1 : j < 400) : aI (sh, I, J) 102 (x + 1 + 1) j = some (I (x + 1 + 1) j) := aI_m L.rl.2.1.2 h0 h1
theorem r_tu (L : CL sh x) {j v : Int} (h0 : 0 ≤ j) (h1 : j < 400) : uB (sh, I, J) (x + 1 + 1) j v = some (sh, up1 I (x + 1 + 1) (upz (I (x + 1 + 1)) j (w8 v)), J) := uB_m L.rl.2.1.2 h0 h1
theorem x_end (L : CL sh x) {s n : Int} (hs : I (x + 1) 3 = s) (h0 : 0 ≤ s ∧ s ≤ 400) (hn : i32 n) :
    (0 ≤ n ∧ n ≤ s → s_X1_end x n (sh, I, J) = some (1, (sh, up1 I (x + 1) (upz (I (x + 1)) 3 n), J))) ∧ (¬(0 ≤ n ∧ n ≤ s) → s_X1_end x n (sh, I, J) = some (0, (sh, I, J))) := by
  unfold s_X1_end
  rw [l_rd L, bsome, r_gI L, bsome, hs, w32_id (x := s) (by omega) (by omega), x1_in hn ⟨by omega, by omega⟩ ⟨by omega, by omega⟩, bsome]
  dsimp only
  refine ⟨fun h => ?_, fun h => ?_⟩
  · rw [if_pos h, if_neg (show ¬ w32 1 = 0 by decide), l_rd L, bsome, r_pI L, bsome]
  · rw [if_neg h, if_pos (show w32 0 = 0 from rfl)]
/-- four bytes -/
theorem x1_four (L : CL sh x) {s v : Int} (hs : I (x + 1) 3 = s) (h0 : 0 ≤ s ∧ s + 4 ≤ 400) : ∃ I', s_X1_four x v (sh, I, J) = some (sh, I', J) ∧ I' (x + 1) = upz (I (x + 1)) 3 (s + 4) ∧ I' (x + 1 + 1) = wr (I (x + 1 + 1)) s 4 (fun i => w8 (srI v (24 - 8 * ((i : Nat) : Int)))) ∧ ∀ a, a ≠ x + 1 → a ≠ x + 1 + 1 → I' a = I a := by
  unfold s_X1_four
  have key : ∀ (q i : Nat) (I1 : Nat → Int → Int), i + q = 4 → I1 (x + 1) = upz (I (x + 1)) 3 (s + i) → I1 (x + 1 + 1) = wr (I (x + 1 + 1)) s i (fun i => w8 (srI v (24 - 8 * ((i : Nat) : Int)))) → (∀ a, a ≠ x + 1 → a ≠ x + 1 + 1 → I1 a = I a) →
      ∃ I', s_X1_four_l3 x v (24 - 8 * (i : Int)) (sh, I1, J) = some (sh, I', J) ∧ I' (x + 1) = upz (I (x + 1)) 3 (s + 4) ∧ I' (x + 1 + 1) = wr (I (x + 1 + 1)) s 4 (fun i => w8 (srI v (24 - 8 * ((i : Nat) : Int)))) ∧ ∀ a, a ≠ x + 1 → a ≠ x + 1 + 1 → I' a = I a := by
    intro q
    induction q with
    | zero =>
      intro i I1 hi h1 h2 h3
      have : i = 4 := by omega
      subst this
      refine ⟨I1, ?_, h1, h2, h3⟩
      rw [e_X1_four_l3]
      unfold s_X1_four_l3_st
      rw [if_pos (by decide)]
      rfl
    | succ q ih =>
      intro i I1 hi h1 h2 h3
      have hz : I1 (x + 1) 3 = s + i := by rw [h1, upz_s]
      obtain ⟨I2, hI2⟩ : ∃ I2, up1 I1 (x + 1 + 1) (upz (I1 (x + 1 + 1)) (s + i) (w8 (w8 (srI v (24 - 8 * (i : Int)))))) = I2 := ⟨_, rfl⟩
      have r2 : I2 (x + 1) = I1 (x + 1) := by rw [← hI2, up1_n _ _ (by omega)]
      obtain ⟨I3, hI3⟩ : ∃ I3, up1 I2 (x + 1) (upz (I1 (x + 1)) 3 (s + i + 1)) = I3 := ⟨_, rfl⟩
      obtain ⟨I', e1, e2⟩ := ih (i + 1) I3 (by omega) (by rw [← hI3, up1_s, h1, upz_upz, show s + (i : Int) + 1 = s + ((i + 1 : Nat) : Int) by omega]) (by rw [← hI3, up1_n _ _ (by omega), ← hI2, up1_s, h2, w8_w8]; exact wr_step (I (x + 1 + 1)) s i (fun i => w8 (srI v (24 - 8 * ((i : Nat) : Int))))) (fun a u w => by rw [← hI3, up1_n _ _ u, ← hI2, up1_n _ _ w]; exact h3 a u w)
      refine ⟨I', ?_, e2⟩
      rw [← e1, e_X1_four_l3]
      unfold s_X1_four_l3_st
      rw [w32_id (x := 24 - 8 * (i : Int)) (by omega) (by omega), if_neg (by omega), l_rd L, bsome, r_tp L, bsome, bsome, r_gI L, bsome, hz, r_tu L (by omega) (by omega), bsome, hI2, l_rd L, bsome, r_gI L, bsome, r2, hz, r_pI L, bsome, r2, hI3]
      show s_X1_four_l3 x v (24 - 8 * (i : Int) + (-8)) (sh, I3, J) = _
      rw [show 24 - 8 * (i : Int) + (-8) = 24 - 8 * ((i + 1 : Nat) : Int) by omega]
  exact key 4 0 I (by omega) (by
    funext k
    unfold upz
    split
    · next h => rw [h, hs]; show s = s + ((0 : Nat) : Int); omega
    · rfl) (wr_0 _ _ _).symm (fun a _ _ => rfl)
theorem wr_app (f : Int → Int) (s : Int) (n k : Nat) (g h : Nat → Int) : wr (wr f s n g) (s + n) k h = wr f s (n + k) (fun i => if i < n then g i else h (i - n)) := by
  funext j
  unfold wr
  by_cases c1 : s + (n : Int) ≤ j ∧ j < s + n + k
  · rw [if_pos c1, if_pos (show s ≤ j ∧ j < s + ((n + k : Nat) : Int) by omega)]
    dsimp only
    rw [if_neg (show ¬ (j - s).toNat < n by omega), show (j - (s + (n : Int))).toNat = (j - s).toNat - n by omega]
  · rw [if_neg c1]
    by_cases c2 : s ≤ j ∧ j < s + n
    · rw [if_pos c2, if_pos (show s ≤ j ∧ j < s + ((n + k : Nat) : Int) by omega)]
      dsimp only
      rw [if_pos (show (j - s).toNat < n by omega)]
    · rw [if_neg c2, if_neg (show ¬(s ≤ j ∧ j < s + ((n + k : Nat) : Int)) by omega)]
theorem wr_congr {f : Int → Int} {s : Int} {n : Nat} {g h : Nat → Int} (e : ∀ i, i < n → g i = h i) : wr f s n g = wr f s n h := by
  funext j
  unfold wr
  split
  · exact e _ (by omega)
  · rfl
theorem x_feed (L : CL sh x) {s a b c d e : Int} (hs : I (x + 1) 3 = s) (h0 : 0 ≤ s ∧ s ≤ 400) :
    (s + 20 ≤ 400 → ∃ I', s_X1_feed x a b c d e (sh, I, J) = some (s + 20, (sh, I', J)) ∧ I' (x + 1) = upz (I (x + 1)) 3 (s + 20) ∧ I' (x + 1 + 1) = wr (I (x + 1 + 1)) s 20 (fdB a b c d e) ∧ ∀ q, q ≠ x + 1 → q ≠ x + 1 + 1 → I' q = I q) ∧
    (¬ s + 20 ≤ 400 → s_X1_feed x a b c d e (sh, I, J) = some (-1, (sh, I, J))) := by
  unfold s_X1_feed
  rw [l_rd L, bsome, r_gI L, bsome, hs, w32_id (x := s + 20) (by omega) (by omega), show w32 400 = 400 from rfl]
  refine ⟨fun h => ?_, fun h => by rw [if_neg h]⟩
  rw [if_pos h, l_ck L, bsome]
  obtain ⟨I1, e1, r1, t1, o1⟩ := x1_four (J := J) (v := a) L hs (by omega)
  obtain ⟨I2, e2, r2, t2, o2⟩ := x1_four (J := J) (v := b) L (I := I1) (s := s + 4) (by rw [r1, upz_s]) (by omega)
  obtain ⟨I3, e3, r3, t3, o3⟩ := x1_four (J := J) (v := c) L (I := I2) (s := s + 4 + 4) (by rw [r2, upz_s]) (by omega)
  obtain ⟨I4, e4, r4, t4, o4⟩ := x1_four (J := J) (v := d) L (I := I3) (s := s + 4 + 4 + 4) (by rw [r3, upz_s]) (by omega)
  obtain ⟨I5, e5, r5, t5, o5⟩ := x1_four (J := J) (v := e) L (I := I4) (s := s + 4 + 4 + 4 + 4) (by rw [r4, upz_s]) (by omega)
  have rz : I5 (x + 1) = upz (I (x + 1)) 3 (s + 20) := by
    rw [r5, r4, upz_upz, r3, upz_upz, r2, upz_upz, r1, upz_upz, show s + 4 + 4 + 4 + 4 + 4 = s + 20 by omega]
  refine ⟨I5, ?_, rz, ?_, fun q u v => by rw [o5 q u v, o4 q u v, o3 q u v, o2 q u v, o1 q u v]⟩
  · rw [e1, bsome, l_ck L, bsome, e2, bsome, l_ck L, bsome, e3, bsome, l_ck L, bsome, e4, bsome, l_ck L, bsome, e5, bsome, l_rd L, bsome, r_gI L, bsome, rz, upz_s]
  · rw [t5, t4, t3, t2, t1]
    have s4 : ∀ z : Int, z + 4 = z + ((4 : Nat) : Int) := fun z => rfl
    rw [show s + 4 + 4 + 4 + 4 = s + ((16 : Nat) : Int) by omega, show s + 4 + 4 + 4 = s + ((12 : Nat) : Int) by omega, show s + 4 + 4 = s + ((8 : Nat) : Int) by omega, s4 s, wr_app, wr_app, wr_app, wr_app]
    refine wr_congr (fun i hi => ?_)
    have hi : i < 20 := hi
    unfold fdB sel5
    have m4 := Nat.div_add_mod i 4
    have ml := Nat.mod_lt i (show 0 < 4 by decide)
    by_cases c1 : i < 4
    · rw [if_pos (by omega), if_pos (by omega), if_pos (by omega), if_pos c1, if_pos (by omega), show i % 4 = i by omega]
    by_cases c2 : i < 8
    · rw [if_pos (by omega), if_pos (by omega), if_pos (by omega), if_neg c1, if_neg (by omega), if_pos (by omega), show i % 4 = i - 4 by omega]
    by_cases c3 : i < 12
    · rw [if_pos (by omega), if_pos (by omega), if_neg (by omega), if_neg (by omega), if_neg (by omega), if_pos (by omega), show i % 4 = i - (4 + 4) by omega]
    by_cases c4 : i < 16
    · rw [if_pos (by omega), if_neg (by omega), if_neg (by omega), if_neg (by omega), if_neg (by omega), if_pos (by omega), show i % 4 = i - (4 + 4 + 4) by omega]
    · rw [if_neg (by omega), if_neg (by omega), if_neg (by omega), if_neg (by omega), if_neg (by omega), show i % 4 = i - (4 + 4 + 4 + 4) by omega]
end CFe
