/-! the twin: common parts, quotients -/
set_option maxRecDepth 100000
/-- zeros ahead are left out -/
def stN (p : Int) (F : Fo) : Nat := ldZ p F.2 F.1 0
def stF (p : Int) (F : Fo) : Fo := (F.1 - stN p F, fun k => F.2 (k + stN p F))
/-- so many steps of a division -/
def dvA (s : Int) (d : Nat) (B A : Int → Int) : Nat → Int → Int
  | 0 => A
  | k + 1 => fun j => dvA s d B A k j - dvA s d B A k k * s * cl d B (j - k)
def dvF (p : Int) (a b : Fo) : Fo := (a.1, dvA (ivS p (b.2 0 % p)) b.1 b.2 a.2 (a.1 - b.1 + 1))
def dvQ (p : Int) (a b : Fo) : Int → Int := fun k => dvA (ivS p (b.2 0 % p)) b.1 b.2 a.2 k.toNat k * ivS p (b.2 0 % p)
def gcS (p : Int) : Nat → Fo → Fo → Fo
  | 0, _, b => b
  | n + 1, a, b =>
    if a.1 < b.1 then (if nzI p (dvF p b a).2 ((dvF p b a).1 + 1) = 1 then a else gcS p n a (stF p (dvF p b a)))
    else (if nzI p (dvF p a b).2 ((dvF p a b).1 + 1) = 1 then b else gcS p n b (stF p (dvF p a b)))
def yyP (p : Int) (F G : Fo) : Nat := min (stN p F) (stN p G)
def gcP (p : Int) (F G : Fo) : Fo := gcS p 50 (stF p F) (stF p G)
def cmF (p : Int) (b : Fo) (y : Nat) : Fo := (b.1 + y, fun k => cl b.1 b.2 (k - y) * ivS p (b.2 0 % p))
def cmP (p : Int) (F G : Fo) : Fo := cmF p (gcP p F G) (yyP p F G)
def qtP (p : Int) (F G : Fo) : Option Fo :=
  if nzI p G.2 (G.1 + 1) = 1 ∨ F.1 < G.1 then none
  else if nzI p F.2 (F.1 + 1) = 1 then some (F.1 - G.1, fun _ => 0)
  else if stN p F < stN p G ∨ (stF p F).1 < (stF p G).1 then none
  else if nzI p (dvF p (stF p F) (stF p G)).2 ((stF p F).1 + 1) = 1 then some (F.1 - G.1, fun k => cl ((stF p F).1 - (stF p G).1 : Nat) (dvQ p (stF p F) (stF p G)) (k - (stN p F - stN p G : Nat)))
  else none
theorem stN_le (p : Int) (F : Fo) : stN p F ≤ F.1 := by
  have := ldZ_b p F.2 F.1 0
  unfold stN
  omega
theorem nz_not {p : Int} {F : Fo} (h : nzI p F.2 (F.1 + 1) = 0) : ¬ nz p F.1 F.2 := by
  intro h9
  have := (nzI_nz (p := p) (c := F.2) (show -1 ≤ (F.1 : Int) by omega)).mpr h9
  rw [show ((F.1 : Int) + 1).toNat = F.1 + 1 by omega, h] at this
  exact absurd this (by decide)
theorem nz_yes {p : Int} {F : Fo} (h : nzI p F.2 (F.1 + 1) = 1) : nz p F.1 F.2 := by
  refine (nzI_nz (p := p) (c := F.2) (show -1 ≤ (F.1 : Int) by omega)).mp ?_
  rw [show ((F.1 : Int) + 1).toNat = F.1 + 1 by omega, h]
theorem stF_lead {p : Int} {F : Fo} (h : ¬ nz p F.1 F.2) : (stF p F).2 0 % p ≠ 0 := by
  obtain ⟨h1, h2⟩ := ldZ_spec p F.2 F.1 0
  have h3 := ldZ_b p F.2 F.1 0
  unfold stF stN
  dsimp only
  rw [Int.zero_add]
  by_cases h4 : ldZ p F.2 F.1 0 < 0 + F.1
  · exact h2 h4
  · intro h5
    refine h (fun k a b => ?_)
    by_cases e : k = ldZ p F.2 F.1 0
    · rw [e]; exact h5
    · have := h1 k.toNat (by omega) (by omega)
      rwa [Int.toNat_of_nonneg a] at this
theorem dvA_mod {p : Int} {s : Int} {d : Nat} {B A : Int → Int} (hs : B 0 * s % p = 1 % p) : ∀ k : Nat, (∀ j : Int, 0 ≤ j → j < k → dvA s d B A k j % p = 0)
  | 0, j, h0, h1 => by omega
  | k + 1, j, h0, h1 => by
    show (dvA s d B A k j - dvA s d B A k k * s * cl d B (j - k)) % p = 0
    by_cases e : j = k
    · rw [e, Int.sub_self, cl_in (by omega) (by omega), Int.mul_assoc, Int.mul_comm s, sub_mod0, ← emod_mul_r, hs, emod_mul_r, Int.mul_one]
    · rw [show cl d B (j - k) = 0 from if_neg (by omega), Int.mul_zero, Int.sub_zero]
      exact dvA_mod hs k j h0 (by omega)
theorem ivS_lead {p : Int} (hp : Pp p) {b : Fo} (h : b.2 0 % p ≠ 0) : b.2 0 * ivS p (b.2 0 % p) % p = 1 % p := by
  have hb := hp.b
  have h1 := emod_b hp (b.2 0)
  rw [← emod_mul_l, ivS_ok hp (by omega) h1.2, Int.emod_eq_of_lt (by omega) (by omega)]
/-- what is left is shorter -/
theorem dvF_short {p : Int} (hp : Pp p) {a b : Fo} (h : b.2 0 % p ≠ 0) (hab : b.1 ≤ a.1) (hn : ¬ nz p (dvF p a b).1 (dvF p a b).2) : (stF p (dvF p a b)).1 < b.1 ∨ b.1 = 0 ∧ False := by
  have h1 := dvA_mod (d := b.1) (A := a.2) (ivS_lead hp h) (a.1 - b.1 + 1)
  obtain ⟨h2, h3⟩ := ldZ_spec p (dvF p a b).2 (dvF p a b).1 0
  have h4 := ldZ_b p (dvF p a b).2 (dvF p a b).1 0
  have h5 := stF_lead hn
  left
  show a.1 - stN p (dvF p a b) < b.1
  unfold stN
  have h6 : a.1 - b.1 + 1 ≤ ldZ p (dvF p a b).2 (dvF p a b).1 0 := by
    by_cases h7 : ldZ p (dvF p a b).2 (dvF p a b).1 0 < a.1 - b.1 + 1
    · exfalso
      have h8 := h1 (ldZ p (dvF p a b).2 (dvF p a b).1 0 : Nat) (by omega) (by omega)
      unfold stF stN at h5
      dsimp only at h5
      rw [Int.zero_add] at h5
      exact h5 h8
    · omega
  by_cases hb0 : b.1 = 0
  · exfalso
    refine hn (fun k a1 b1 => ?_)
    exact h1 k a1 (by
      have : (dvF p a b).1 = a.1 := rfl
      omega)
  · omega
section TC1
variable {sh : Sh} {I J : Nat → Int → Int} {m : Nat} {p : Int}
theorem t_toldOf (T : TL sh m) {r k : Int} {F : Fo} (hr : 0 ≤ r ∧ r < 48) (hF : F.1 ≤ 40) (hk : i32 k) (hc : RW I m p r F.1 F.2) : s_X11_toldOf m r k (sh, I, J) = some (tellP F.1 F.2 p k, (sh, I, J)) := by
  unfold s_X11_toldOf tellP
  simp (disch := omega) only [bsome, t_ck T, t_gI T, t_pI T, t_gJ T, t_pJ T, tR_deg T, tA_deg T, tU_deg T, hc.1, w32_id (x := -1)]
  rw [w32_id hk.1 hk.2]
  by_cases h1 : k = -1
  · rw [if_pos h1, if_pos h1]
  · rw [if_neg h1, if_neg h1, x_in hk ⟨by omega, by omega⟩ ⟨by omega, by omega⟩, bsome]
    dsimp only
    by_cases h2 : 0 ≤ k ∧ k ≤ F.1
    · have h9 := hc.2 k h2.1 h2.2
      rw [if_pos h2, if_pos h2]
      simp (disch := omega) only [w32_id (x := 1), if_neg, t_ck T, bsome, t_of T, h9, ifT]
    · rw [if_neg h2, if_neg h2]
      rfl
theorem t_strips (T : TL sh m) (hp : Pp p) {r : Int} {F : Fo} (hr : 0 ≤ r ∧ r < 48) (hF : F.1 ≤ 40) (hc : RW I m p r F.1 F.2) (hn : ¬ nz p F.1 F.2) :
    ∃ I', s_X11_strips m r (sh, I, J) = some ((stN p F : Int), (sh, I', J)) ∧ RW I' m p r (stF p F).1 (stF p F).2 ∧ RF m (fun q => q = r) I I' := by
  have hpb := hp.b
  have hle := stN_le p F
  obtain ⟨n, hnn⟩ : ∃ n, stN p F = n := ⟨_, rfl⟩
  have hst : ((stF p F).1 : Int) = F.1 - n := by
    show ((F.1 - stN p F : Nat) : Int) = _
    omega
  rw [hst]
  have hst2 : (stF p F).2 = fun k => F.2 (k + n) := by
    show (fun k => F.2 (k + stN p F)) = _
    rw [hnn]
  rw [hst2, hnn]
  rw [hnn] at hle
  obtain ⟨d, c⟩ := F
  dsimp only at *
  have move : ∃ I', s_X11_strips_l19 m r n n (sh, I, J) = some ((n : Int), (sh, I', J)) ∧ RW I' m p r (d - n) (fun k => c (k + n)) ∧ RF m (fun q => q = r) I I' := by
    obtain ⟨I1, hI1⟩ : ∃ I1, up1 I (m + 4) (wr (I (m + 4)) (41 * r) (d - n + 1) (fun i => c (n + i) % p)) = I1 := ⟨_, rfl⟩
    have h1 : I1 (m + 3) = I (m + 3) := by rw [← hI1, up1_n _ _ (by omega)]
    refine ⟨up1 I1 (m + 3) (upz (I1 (m + 3)) r (d - n)), ?_, ⟨by rw [up1_s, upz_s], fun k a b => ?_⟩, fun a x y => ?_, fun q x y z => ⟨?_, fun k a b => ?_⟩⟩
    · unfold s_X11_strips_l19
      refine arr_loop (f := fun s : Int × Me => s_X11_strips_l19_st m r n s.1 s.2) (sh := sh) (I := I) (J := J) (m + 4) (41 * r) n (d - n + 1) (fun i => c (n + i) % p) ?_ ?_
      · intro i hi
        have o1 : up1 I (m + 4) (wr (I (m + 4)) (41 * r) i (fun i => c (n + i) % p)) (m + 3) r = d := by rw [up1_n _ _ (by omega), hc.1]
        have o2 : up1 I (m + 4) (wr (I (m + 4)) (41 * r) i (fun i => c (n + i) % p)) (m + 4) (41 * r + (n + i)) = c (n + i) % p := by rw [up1_s, wr_out (by omega), hc.2 _ (by omega) (by omega)]
        unfold s_X11_strips_l19_st
        dsimp only
        simp (disch := omega) only [bsome, t_ck T, t_gI T, t_pI T, t_gJ T, t_pJ T, tR_deg T, tA_deg T, tU_deg T, o1, w32_id, if_neg, t_of T, o2, t_put T, up1_s, up1_up1, ifT]
        rw [show 41 * r + ((n : Int) + i - n) = 41 * r + i by omega]
      · have o1 : up1 I (m + 4) (wr (I (m + 4)) (41 * r) (d - n + 1) (fun i => c (n + i) % p)) (m + 3) r = d := by rw [up1_n _ _ (by omega), hc.1]
        unfold s_X11_strips_l19_st s_X11_strips_b49
        dsimp only
        simp (disch := omega) only [bsome, t_ck T, t_gI T, t_pI T, t_gJ T, t_pJ T, tR_deg T, tA_deg T, tU_deg T, o1, w32_id, if_pos, ifT]
        rw [hI1]
        rfl
    · rw [up1_n _ _ (by omega), ← hI1, up1_s, wr_in (by omega) (by omega), show (n : Int) + ((41 * r + k - 41 * r).toNat : Nat) = k + n by omega]
    · rw [up1_n _ _ x, ← hI1, up1_n _ _ y]
    · rw [up1_s, upz_n _ _ z, h1]
    · rw [up1_n _ _ (by omega), ← hI1, up1_s, wr_out (by omega)]
  obtain ⟨I', e, r1, f1⟩ := move
  refine ⟨I', ?_, r1, f1⟩
  unfold s_X11_strips
  have key : ∀ k i : Nat, i + k = d → ldZ p c k i = n → (∀ j : Int, 0 ≤ j → j < i → c j % p = 0) → s_X11_strips_l2 m r i (sh, I, J) = some ((n : Int), (sh, I', J)) := by
    intro k
    induction k with
    | zero =>
      intro i hi hl hz
      have hin : i = n := hl
      have h1 := hc.2 i (by omega) (by omega)
      have h2 := emod_b hp (c i)
      have h3 : c i % p ≠ 0 := by
        intro h
        refine hn (fun j a b => ?_)
        by_cases e : j = i
        · rw [e, h]
        · exact hz j a (by omega)
      rw [e_X11_strips_l2]
      unfold s_X11_strips_l2_st
      simp (disch := omega) only [t_ck T, bsome, t_of T, h1, w32_id, if_neg, ifT]
      rw [hin, e]
      rfl
    | succ k ih =>
      intro i hi hl hz
      have h1 := hc.2 i (by omega) (by omega)
      have h2 := emod_b hp (c i)
      rw [e_X11_strips_l2]
      unfold s_X11_strips_l2_st
      simp (disch := omega) only [t_ck T, bsome, t_of T, h1, w32_id]
      unfold ldZ at hl
      by_cases h : c i % p = 0
      · rw [if_pos h] at hl ⊢
        exact ih (i + 1) (by omega) hl (fun j a b => by
          by_cases e : j = i
          · rw [e, h]
          · exact hz j a (by omega))
      · rw [if_neg h] at hl ⊢
        rw [hl, e]
        rfl
  exact key d 0 (by omega) hnn (fun j a b => absurd b (by omega))
theorem t_divides (T : TL sh m) (hI : I (m + 1) 0 = p) (hp : Pp p) {r q to : Int} {a b : Fo} (hr : 0 ≤ r ∧ r < 48) (hq : 0 ≤ q ∧ q < 48 ∧ q ≠ r) (hto : 0 ≤ to ∧ to < 48 ∧ to ≠ r ∧ to ≠ q) (ha : a.1 ≤ 40) (hab : b.1 ≤ a.1) (hc : RW I m p r a.1 a.2) (hd : RW I m p q b.1 b.2) :
    ∃ I', s_X11_divides m r q to (sh, I, J) = some (sh, I', J) ∧ RW I' m p r a.1 (dvF p a b).2 ∧ RW I' m p to ((a.1 : Int) - b.1) (dvQ p a b) ∧ RF m (fun x => x = r ∨ x = to) I I' := by
  have h0 := hd.2 0 (by omega) (by omega)
  have hb0 := emod_b hp (b.2 0)
  obtain ⟨s, hs⟩ : ∃ s, ivS p (b.2 0 % p) = s := ⟨_, rfl⟩
  have hsm : s % p = s := by rw [← hs]; exact ivS_m _
  obtain ⟨I1, e1, r1, f1⟩ := t_clearsR (I := I) (J := J) (p := p) T hto.1 hto.2.1 (d := (a.1 : Int) - b.1) (by omega) (by omega)
  have e0 := t_inverse (J := J) T hI hp hb0
  rw [hs] at e0
  unfold s_X11_divides dvF dvQ
  rw [hs]
  dsimp only
  simp (disch := omega) only [bsome, t_ck T, t_gI T, t_pI T, t_gJ T, t_pJ T, tR_deg T, tA_deg T, tU_deg T, t_of T, h0, e0, hc.1, hd.1, e1]
  have key : ∀ (k i : Nat) (I2 : Nat → Int → Int), i + k = a.1 - b.1 + 1 → I2 (m + 3) to = (a.1 : Int) - b.1 → (∀ l : Int, 0 ≤ l → l < i → I2 (m + 4) (41 * to + l) = dvA s b.1 b.2 a.2 l.toNat l * s % p) → RW I2 m p r a.1 (dvA s b.1 b.2 a.2 i) → RF m (fun x => x = r ∨ x = to) I I2 →
      ∃ I', s_X11_divides_l33 m r q to s i (sh, I2, J) = some (sh, I', J) ∧ RW I' m p r a.1 (dvA s b.1 b.2 a.2 (a.1 - b.1 + 1)) ∧ RW I' m p to ((a.1 : Int) - b.1) (fun k => dvA s b.1 b.2 a.2 k.toNat k * s) ∧ RF m (fun x => x = r ∨ x = to) I I' := by
    intro k
    induction k with
    | zero =>
      intro i I2 hi g1 g2 g3 g4
      have hi2 : i = a.1 - b.1 + 1 := by omega
      refine ⟨I2, ?_, by rw [← hi2]; exact g3, ⟨g1, fun l u v => g2 l u (by omega)⟩, g4⟩
      rw [e_X11_divides_l33]
      unfold s_X11_divides_l33_st
      simp (disch := omega) only [bsome, t_ck T, t_gI T, t_pI T, t_gJ T, t_pJ T, tR_deg T, tA_deg T, tU_deg T, g1, w32_id, if_pos, ifT]
      rfl
    | succ k ih =>
      intro i I2 hi g1 g2 g3 g4
      have hI2 := g4.pw hI
      have hd2 := hd.keep g4 (by omega) hq.1 hq.2.1 (by omega)
      have hi2 := g3.2 i (by omega) (by omega)
      obtain ⟨A, hA⟩ : ∃ A, dvA s b.1 b.2 a.2 i = A := ⟨_, rfl⟩
      rw [hA] at g3 hi2
      have e2 := t_timesM (J := J) T hI2 hp (A i) s
      rw [hsm] at e2
      obtain ⟨I3, e3, k1, k2, k3, k4⟩ := t_putR (I := I2) (J := J) T hto.1 hto.2.1 (k := i) (v := A i * s % p) (by omega) (by omega)
      have g3' := g3.keep k4 (by omega) hr.1 hr.2 (by omega)
      have hd3 := hd2.keep k4 (by omega) hq.1 hq.2.1 (by omega)
      have hI3 := k4.pw hI2
      have inner : ∃ I', s_X11_divides_l71 m r q to s i (A i * s % p) 0 (sh, I3, J) = some (.inl ((i : Int) + 1, (sh, I', J))) ∧ RW I' m p r a.1 (dvA s b.1 b.2 a.2 (i + 1)) ∧ RF m (fun x => x = r) I3 I' := by
        unfold s_X11_divides_l71
        refine ex_g (fun I' => Sum.inl ((i : Int) + 1, ((sh, I', J) : Me))) (whileO_for (b.1 + 1)
          (fun j z => ∃ I', z = ((j : Int), ((sh, I', J) : Me)) ∧ I' (m + 3) r = a.1 ∧ (∀ l : Int, 0 ≤ l → l ≤ a.1 → i ≤ l → l < i + j → I' (m + 4) (41 * r + l) = (A l - A i * s * b.2 (l - i)) % p) ∧ (∀ l : Int, 0 ≤ l → l ≤ a.1 → (l < i ∨ i + j ≤ l) → I' (m + 4) (41 * r + l) = A l % p) ∧ RF m (fun x => x = r) I3 I')
          _ ?_ ?_ _ ?_)
        · rintro j z hj ⟨I4, rfl, a1, a2, a3, a4⟩
          have b1 := a3 (i + j) (by omega) (by omega) (by omega)
          have hd4 := hd3.keep a4 hq.2.2 hq.1 hq.2.1 (by omega)
          have b2 := hd4.2 j (by omega) (by omega)
          have hI4 := a4.pw hI3
          obtain ⟨I5, e5, k1, k2, k3, k4⟩ := t_putR (I := I4) (J := J) T hr.1 hr.2 (k := i + j) (v := (A (i + j) - A i * s * b.2 j) % p) (by omega) (by omega)
          refine ⟨((j : Int) + 1, (sh, I5, J)), ?_, I5, by simp, by rw [k2]; exact a1, fun l g1 g2 g3 g4 => ?_, fun l g1 g2 g3 => ?_, a4.trans k4⟩
          · unfold s_X11_divides_l71_st
            dsimp only
            simp (disch := omega) only [bsome, t_ck T, t_gI T, t_pI T, t_gJ T, t_pJ T, tR_deg T, tA_deg T, tU_deg T, hd4.1, w32_id, if_neg, t_of T, b1, b2, t_timesM T hI4 hp, t_lessM T hI4 hp, e5, ifT]
          · by_cases e : l = i + j
            · rw [e, k1, show (i : Int) + j - i = j by omega]
            · rw [k3 _ (by omega)]
              exact a2 l g1 g2 g3 (by omega)
          · rw [k3 _ (by omega)]
            exact a3 l g1 g2 (by omega)
        · rintro z ⟨I4, rfl, a1, a2, a3, a4⟩
          have hd4 := hd3.keep a4 hq.2.2 hq.1 hq.2.1 (by omega)
          unfold s_X11_divides_l71_st
          dsimp only
          simp (disch := omega) only [bsome, t_ck T, t_gI T, t_pI T, t_gJ T, t_pJ T, tR_deg T, tA_deg T, tU_deg T, hd4.1, w32_id, if_pos, ifT]
          refine ⟨_, rfl, I4, rfl, ⟨a1, fun l g1 g2 => ?_⟩, a4⟩
          show _ = (dvA s b.1 b.2 a.2 i l - dvA s b.1 b.2 a.2 i i * s * cl b.1 b.2 (l - i)) % p
          rw [hA]
          by_cases h : (i : Int) ≤ l ∧ l < i + (b.1 + 1)
          · rw [a2 l g1 g2 h.1 (by omega), cl_in (by omega) (by omega)]
          · rw [a3 l g1 g2 (by omega), show cl b.1 b.2 (l - i) = 0 from if_neg (by omega), Int.mul_zero, Int.sub_zero]
        · exact ⟨I3, rfl, g3'.1, fun l _ _ _ _ => by omega, fun l g1 g2 _ => g3'.2 l g1 g2, RF.refl⟩
      obtain ⟨I4, e4, r4, f4⟩ := inner
      have k4' := (g4.trans (k4.mono (fun x h => Or.inr h))).trans (f4.mono (fun x h => Or.inl h))
      have to4 := f4.2 to hto.1 hto.2.1 hto.2.2.1
      obtain ⟨I5, e5, r5, q5, f5⟩ := ih (i + 1) I4 (by omega) (by rw [to4.1, k2, g1]) (fun l l0 l1 => by
        rw [to4.2 l l0 (by omega)]
        by_cases e : l = i
        · rw [e, k1, Int.toNat_natCast, hA]
        · rw [k3 _ (by omega)]
          exact g2 l l0 (by omega)) r4 k4'
      refine ⟨I5, ?_, r5, q5, f5⟩
      rw [e_X11_divides_l33]
      unfold s_X11_divides_l33_st
      simp (disch := omega) only [bsome, t_ck T, t_gI T, t_pI T, t_gJ T, t_pJ T, tR_deg T, tA_deg T, tU_deg T, g1, w32_id, if_neg, t_of T, hi2, e2, e3, e4, ifT]
      exact e5
  obtain ⟨I', e2, r2, q2, f2⟩ := key (a.1 - b.1 + 1) 0 I1 (by omega) r1.1 (fun l l0 l1 => absurd l1 (by omega)) (hc.keep f1 (by omega) hr.1 hr.2 (by omega)) (f1.mono (fun x h => Or.inr h))
  exact ⟨I', e2, r2, q2, f2⟩
theorem t_swap (T : TL sh m) {a b : Fo} (ha : a.1 ≤ 40) (hb : b.1 ≤ 40) (hc : RW I m p 40 a.1 a.2) (hd : RW I m p 41 b.1 b.2) :
    ∃ I1 I2 I3, s_X11_copies m 40 42 (sh, I, J) = some (sh, I1, J) ∧ s_X11_copies m 41 40 (sh, I1, J) = some (sh, I2, J) ∧ s_X11_copies m 42 41 (sh, I2, J) = some (sh, I3, J) ∧ RW I3 m p 40 b.1 b.2 ∧ RW I3 m p 41 a.1 a.2 ∧ RF m (fun q => 40 ≤ q ∧ q ≤ 43) I I3 := by
  obtain ⟨I1, e1, r1, f1⟩ := t_copies (J := J) T (r := 40) (to := 42) (by omega) (by omega) (by omega) hc
  have hd1 := hd.keep f1 (by omega) (by omega) (by omega) (by omega)
  obtain ⟨I2, e2, r2, f2⟩ := t_copies (J := J) T (r := 41) (to := 40) (by omega) (by omega) (by omega) hd1
  have r12 := r1.keep f2 (by omega) (by omega) (by omega) (by omega)
  obtain ⟨I3, e3, r3, f3⟩ := t_copies (J := J) T (r := 42) (to := 41) (by omega) (by omega) (by omega) r12
  exact ⟨I1, I2, I3, e1, e2, e3, r2.keep f3 (by omega) (by omega) (by omega) (by omega), r3, ((f1.mono (fun q h => by omega)).trans (f2.mono (fun q h => by omega))).trans (f3.mono (fun q h => by omega))⟩
end TC1
