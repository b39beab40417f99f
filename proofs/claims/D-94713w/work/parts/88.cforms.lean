/-! the component: forms, the field, the desk -/
set_option maxRecDepth 100000
/-- a form lies at q -/
def FA (sh : Sh) (q : Nat) : Prop := sh.2.1 q = 6 ∧ sh.2.2.2 q 0 = some (q + 1) ∧ AR sh (q + 1) 101 41
/-- the form at q holds, modulo p, the numbers c 0 .. c d -/
def FM (I : Nat → Int → Int) (q : Nat) (p d : Int) (c : Int → Int) : Prop := I q 1 = d ∧ ∀ k : Int, 0 ≤ k → k ≤ d → I (q + 1) k = c k % p
theorem FM.congr {I : Nat → Int → Int} {q : Nat} {p d : Int} {c c' : Int → Int} (h : FM I q p d c) (e : ∀ k, 0 ≤ k → k ≤ d → c k % p = c' k % p) : FM I q p d c' := ⟨h.1, fun k a b => (h.2 k a b).trans (e k a b)⟩
theorem FM.cl {I : Nat → Int → Int} {q : Nat} {p d : Int} {c : Int → Int} (h : FM I q p d c) : FM I q p d (cl d c) := h.congr (fun k a b => by rw [cl_in a b])
theorem FM.eq {I I' : Nat → Int → Int} {q : Nat} {p d : Int} {c : Int → Int} (h : FM I q p d c) (h1 : I' q = I q) (h2 : I' (q + 1) = I (q + 1)) : FM I' q p d c := ⟨by rw [h1]; exact h.1, fun k a b => by rw [h2]; exact h.2 k a b⟩
/-- only addresses of S are touched -/
def AF (S : Nat → Prop) (I I' : Nat → Int → Int) : Prop := ∀ a : Nat, ¬ S a → I' a = I a
theorem AF.refl {S : Nat → Prop} {I : Nat → Int → Int} : AF S I I := fun _ _ => rfl
theorem AF.trans {S : Nat → Prop} {I I' I2 : Nat → Int → Int} (h : AF S I I') (h2 : AF S I' I2) : AF S I I2 := fun a x => (h2 a x).trans (h a x)
theorem AF.mono {S S' : Nat → Prop} {I I' : Nat → Int → Int} (h : AF S I I') (hS : ∀ a, S a → S' a) : AF S' I I' := fun a x => h a (fun y => x (hS a y))
theorem AF.one {S : Nat → Prop} {I : Nat → Int → Int} {a : Nat} {f : Int → Int} (h : S a) : AF S I (up1 I a f) := fun b hb => up1_n _ _ (fun e => hb (e ▸ h))
theorem FM.keep {S : Nat → Prop} {I I' : Nat → Int → Int} {q : Nat} {p d : Int} {c : Int → Int} (h : FM I q p d c) (hF : AF S I I') (h1 : ¬ S q) (h2 : ¬ S (q + 1)) : FM I' q p d c := h.eq (hF q h1) (hF (q + 1) h2)
/-- the form q alone -/
abbrev aF (q a : Nat) : Prop := a = q ∨ a = q + 1
theorem if_same {α : Type} {c : Prop} [Decidable c] {a : α} : (if c then a else a) = a := by split <;> rfl
theorem lkI_of {p d d2 v : Int} {c c2 : Int → Int} (hd : -1 ≤ d) (h2 : v = 0 ∨ v = 1) (h3 : v = 1 ↔ d = d2 ∧ ∀ k : Int, 0 ≤ k → k ≤ d → c k % p = c2 k % p) : v = lkI p d c d2 c2 := by
  obtain ⟨g1, g2⟩ := lkI_iff (p := p) (d := d) (x := c) (e := d2) (y := c2) hd
  rcases h2 with h | h
  · rcases g1 with g | g
    · rw [h, g]
    · rw [h] at h3
      exact absurd (h3.mpr (g2.mp g)) (by decide)
  · rw [h, g2.mpr (h3.mp h)]
section CF
variable {sh : Sh} {I J : Nat → Int → Int} {q : Nat}
theorem f_ck (F : FA sh q) : ck (sh, I, J) 6 q = some () := ck_m F.1
theorem f_gI (F : FA sh q) (k : Int) : gI (sh, I, J) 6 q k = some (I q k) := gI_m F.1 k
theorem f_pI (F : FA sh q) (k v : Int) : pI (sh, I, J) 6 q k v = some (sh, up1 I q (upz (I q) k v), J) := pI_m F.1 k v
theorem f_gR (F : FA sh q) : gR (sh, I, J) 6 q 0 = some (q + 1) := gR_m F.1 F.2.1
theorem f_aI (F : FA sh q) {j : Int} (h0 : 0 ≤ j) (h1 : j < 41) : aI (sh, I, J) 101 (q + 1) j = some (I (q + 1) j) := aI_m F.2.2 h0 h1
theorem f_uI (F : FA sh q) {j v : Int} (h0 : 0 ≤ j) (h1 : j < 41) : uI (sh, I, J) (q + 1) j v = some (sh, up1 I (q + 1) (upz (I (q + 1)) j v), J) := uI_m F.2.2 h0 h1
-- the field
variable {f : Nat} {p : Int}
theorem x7_of (hf : sh.2.1 f = 5) (hI : I f 0 = p) (hp : Pp p) {y : Int} (h0 : -9223372036854775808 ≤ y) (h1 : y < 9223372036854775808) : s_X7_of f y (sh, I, J) = some (y % p, (sh, I, J)) := by
  have hb := hp.b
  unfold s_X7_of
  rw [gI_m hf, bsome, hI]
  unfold rmJ
  have ht1 : -p < y.tmod p := Int.neg_lt_of_neg_lt (by have := Int.lt_tmod_of_pos y (show 0 < p by omega); omega)
  have ht2 : y.tmod p < p := Int.tmod_lt_of_pos y (by omega)
  rw [w32_id (x := p) (by omega) (by omega), w64_id h0 h1, w64_id (x := p) (by omega) (by omega), if_neg (by omega), bsome, w32_id (by omega) (by omega)]
  by_cases ha : 0 ≤ y
  · rw [tmod_pos (by omega) ha, if_pos (emod_b hp y).1]
  · rw [tmod_neg (by omega) (by omega)]
    by_cases h9 : y.tmod p = 0
    · rw [if_pos h9, h9, if_pos (by omega)]
    · have h2 := tmod_neg (p := p) (by omega) (show y < 0 by omega)
      rw [if_neg h9] at h2
      have h3 := emod_b hp y
      rw [if_neg h9, if_neg (by omega), bsome]
theorem x7_add (hf : sh.2.1 f = 5) (hI : I f 0 = p) (hp : Pp p) (a b : Int) : s_X7_of f (w32 (a % p + b % p)) (sh, I, J) = some ((a + b) % p, (sh, I, J)) := by
  have h1 := emod_b hp a
  have h2 := emod_b hp b
  have h3 := hp.b
  rw [w32_id (by omega) (by omega), x7_of hf hI hp (by omega) (by omega), ← Int.add_emod]
theorem x7_mul (hf : sh.2.1 f = 5) (hI : I f 0 = p) (hp : Pp p) (a b : Int) : s_X7_of f (w32 (a % p) * w32 (b % p)) (sh, I, J) = some (a * b % p, (sh, I, J)) := by
  have h1 := emod_b hp a
  have h2 := emod_b hp b
  have h3 := hp.b
  have h4 := mul_b hp h1 h2
  rw [w32_id (by omega) (by omega), w32_id (by omega) (by omega), x7_of hf hI hp (by omega) (by omega), ← Int.mul_emod]
theorem x7_fma (hf : sh.2.1 f = 5) (hI : I f 0 = p) (hp : Pp p) (a b c : Int) : s_X7_of f (w32 (a % p) + w32 (b % p) * w32 (c % p)) (sh, I, J) = some ((a + b * c) % p, (sh, I, J)) := by
  have h0 := emod_b hp a
  have h1 := emod_b hp b
  have h2 := emod_b hp c
  have h3 := hp.b
  have h4 := mul_b hp h1 h2
  rw [w32_id (by omega) (by omega), w32_id (by omega) (by omega), w32_id (by omega) (by omega), x7_of hf hI hp (by omega) (by omega), Int.add_emod, emod_emod_, ← Int.mul_emod, ← Int.add_emod]
theorem x7_muI (hf : sh.2.1 f = 5) (hI : I f 0 = p) (hp : Pp p) (a : Int) {n : Int} (h0 : -1000 ≤ n) (h1 : n ≤ 1000) : s_X7_of f (w32 (a % p) * w32 n) (sh, I, J) = some (a * n % p, (sh, I, J)) := by
  have h2 := emod_b hp a
  have h3 := hp.b
  have h4 : a % p * n ≤ 19 * 1000 := Int.le_trans (Int.mul_le_mul_of_nonneg_left (show n ≤ 1000 from h1) h2.1) (Int.mul_le_mul_of_nonneg_right (show a % p ≤ 19 by omega) (by omega))
  have h5 : -(19 * 1000) ≤ a % p * n := by
    have h6 : a % p * (-n) ≤ 19 * 1000 := Int.le_trans (Int.mul_le_mul_of_nonneg_left (show -n ≤ 1000 by omega) h2.1) (Int.mul_le_mul_of_nonneg_right (show a % p ≤ 19 by omega) (by omega))
    rw [Int.mul_neg] at h6
    omega
  rw [w32_id (by omega) (by omega), w32_id (by omega) (by omega), x7_of hf hI hp (by omega) (by omega), emod_mul_l]
theorem x7_power (hf : sh.2.1 f = 5) (hI : I f 0 = p) (hp : Pp p) (a : Int) {n : Int} (h0 : 0 ≤ n) (h1 : n < 1000000) : s_X7_power f (a % p) n (sh, I, J) = some (a ^ n.toNat % p, (sh, I, J)) := by
  have hb := hp.b
  unfold s_X7_power s_X7_power_l5
  refine whileO_tr n.toNat (fun i => (a ^ i % p, (i : Int), (sh, I, J))) ?_ (fun i hi => ?_) ?_
  · rw [Int.pow_zero, Int.emod_eq_of_lt (by omega) (by omega)]
    rfl
  · unfold s_X7_power_l5_st
    dsimp only
    rw [w32_id (x := n) (by omega) (by omega), w32_id (x := (i : Int)) (by omega) (by omega), if_neg (by omega), ck_m hf, bsome, x7_mul hf hI hp, bsome, Int.pow_succ]
    rfl
  · unfold s_X7_power_l5_st
    dsimp only
    rw [w32_id (x := n) (by omega) (by omega), w32_id (by omega) (by omega), if_pos (by omega)]
theorem x7_inverse (hf : sh.2.1 f = 5) (hI : I f 0 = p) (hp : Pp p) (a : Int) : s_X7_inverse f (a % p) (sh, I, J) = some (ivS p (a % p), (sh, I, J)) := by
  have hb := hp.b
  unfold s_X7_inverse
  rw [gI_m hf, bsome, hI, ck_m hf, bsome, x7_power hf hI hp a (by omega) (by omega), bsome]
  unfold ivS
  rw [emod_pow]
-- forms
theorem cpI_f {r : Nat} (F : FA sh q) (G : FA sh r) : cpI (sh, I, J) (r + 1) 0 (q + 1) 0 41 = some (sh, up1 I (q + 1) (cpz (I (r + 1)) (I (q + 1)) 0 0 41), J) := by
  unfold cpI
  obtain ⟨-, -, ⟨a1, a2⟩⟩ := F
  obtain ⟨-, -, ⟨b1, b2⟩⟩ := G
  have : sh.2.2.1 (r + 1) = 41 := by omega
  have : sh.2.2.1 (q + 1) = 41 := by omega
  rw [if_pos]
  · rfl
  · refine ⟨b1, a1, by decide, by decide, by decide, ?_, ?_⟩
    · show w32 0 + w32 41 ≤ sh.2.2.1 (r + 1)
      rw [show w32 0 = 0 from rfl, show w32 41 = 41 from rfl]
      omega
    · show w32 0 + w32 41 ≤ sh.2.2.1 (q + 1)
      rw [show w32 0 = 0 from rfl, show w32 41 = 41 from rfl]
      omega
theorem x8_be {r : Nat} (F : FA sh q) (G : FA sh r) (hqr : q + 1 < r ∨ r + 1 < q ∨ q = r) {d : Int} {c : Int → Int} (hd : d ≤ 40) (hc : FM I r p d c) : ∃ I', s_X8_be q r (sh, I, J) = some (sh, I', J) ∧ FM I' q p d c ∧ AF (aF q) I I' := by
  unfold s_X8_be
  rw [f_gI G, bsome, f_pI F, bsome, f_gR G, bsome, f_gR F, bsome, cpI_f F G, bsome]
  refine ⟨_, rfl, ⟨?_, fun k a b => ?_⟩, fun a ha => ?_⟩
  · rw [up1_n _ _ (by omega), up1_s, upz_s, hc.1]
  · rw [up1_s]
    unfold cpz
    rw [if_pos (by omega), up1_n _ _ (by omega), show (0 : Int) + (k - 0) = k by omega]
    exact hc.2 k a b
  · rw [up1_n _ _ (fun e => ha (Or.inr e)), up1_n _ _ (fun e => ha (Or.inl e))]
theorem x8_nought (F : FA sh q) (p : Int) {d : Int} (hd : d ≤ 40) : ∃ I', s_X8_nought q d (sh, I, J) = some (sh, I', J) ∧ FM I' q p d (fun _ => 0) ∧ (∀ k : Int, 0 ≤ k → k ≤ 40 → I' (q + 1) k = 0) ∧ AF (aF q) I I' := by
  unfold s_X8_nought
  rw [f_pI F, bsome]
  unfold s_X8_nought_l7
  obtain ⟨I1, hI1⟩ : ∃ I1, up1 I q (upz (I q) 1 d) = I1 := ⟨_, rfl⟩
  rw [hI1]
  have hl := arr_loop (f := fun s : Int × Me => s_X8_nought_l7_st q s.1 s.2) (sh := sh) (I := I1) (J := J) (q + 1) 0 0 41 (fun _ => 0) (r := (sh, up1 I1 (q + 1) (wr (I1 (q + 1)) 0 41 (fun _ => 0)), J)) ?_ ?_
  · rw [hl]
    have hz : ∀ k : Int, 0 ≤ k → k ≤ 40 → wr (I1 (q + 1)) 0 41 (fun _ => 0) k = 0 := fun k a b => wr_in a (by omega)
    refine ⟨_, rfl, ⟨?_, fun k a b => ?_⟩, fun k a b => ?_, fun a ha => ?_⟩
    · rw [up1_n _ _ (by omega), ← hI1, up1_s, upz_s]
    · rw [up1_s, Int.zero_emod]
      exact hz k a (by omega)
    · rw [up1_s]
      exact hz k a b
    · rw [up1_n _ _ (fun e => ha (Or.inr e)), ← hI1, up1_n _ _ (fun e => ha (Or.inl e))]
  · intro i hi
    unfold s_X8_nought_l7_st
    dsimp only
    rw [Int.zero_add]
    simp (disch := omega) only [bsome, f_ck F, f_gI F, f_pI F, f_gR F, f_aI F, f_uI F, w32_id, if_neg, up1_s, up1_up1, ifT]
  · unfold s_X8_nought_l7_st
    dsimp only
    simp (disch := omega) only [w32_id, if_pos, ifT]
theorem x8_isNought (F : FA sh q) (hp : Pp p) {d : Int} {c : Int → Int} (hd : -1 ≤ d ∧ d ≤ 40) (hc : FM I q p d c) : s_X8_isNought q (sh, I, J) = some (nzI p c (d + 1).toNat, (sh, I, J)) := by
  unfold s_X8_isNought s_X8_isNought_l4
  have h := whileO_for (f := fun s : Int × Int × Me => s_X8_isNought_l4_st q s.1 s.2.1 s.2.2) (d + 1).toNat (fun i s => ∃ v : Int, s = (v, (i : Int), ((sh, I, J) : Me)) ∧ (v = 0 ∨ v = 1) ∧ (v = 1 ↔ ∀ k : Int, 0 ≤ k → k < i → c k % p = 0))
    (fun x => ∃ v : Int, x = (v, ((sh, I, J) : Me)) ∧ (v = 0 ∨ v = 1) ∧ (v = 1 ↔ nz p d c)) ?_ ?_ (1, 0, (sh, I, J)) ?_
  · obtain ⟨x, h1, v, h2, h3, h4⟩ := h
    rw [h1, h2, nzI_of hd.1 h3 h4]
  · rintro i s hi ⟨v, rfl, h2, h3⟩
    have h1 := hc.2 i (by omega) (by omega)
    have hb := emod_b hp (c i)
    have hb2 := hp.b
    unfold s_X8_isNought_l4_st
    dsimp only
    simp (disch := omega) only [bsome, f_ck F, f_gI F, f_pI F, f_gR F, f_aI F, f_uI F, hc.1, w32_id, if_neg, h1, ifT]
    by_cases hv : v = 0
    · rw [if_pos hv]
      refine ⟨_, rfl, 0, by simp, Or.inl rfl, ⟨fun e => absurd e (by decide), fun e => ?_⟩⟩
      have := h3.mpr (fun k a b => e k a (by omega))
      omega
    · rw [if_neg hv]
      have hv1 : v = 1 := by omega
      by_cases hz : c i % p = 0
      · rw [if_pos hz]
        refine ⟨_, rfl, 1, by simp, Or.inr rfl, ⟨fun _ k a b => ?_, fun _ => rfl⟩⟩
        by_cases e : k = i
        · rw [e, hz]
        · exact h3.mp hv1 k a (by omega)
      · rw [if_neg hz]
        refine ⟨_, rfl, 0, by simp, Or.inl rfl, ⟨fun e => absurd e (by decide), fun e => absurd (e i (by omega) (by omega)) hz⟩⟩
  · rintro s ⟨v, rfl, h2, h3⟩
    unfold s_X8_isNought_l4_st
    dsimp only
    simp (disch := omega) only [bsome, f_ck F, f_gI F, f_pI F, f_gR F, f_aI F, f_uI F, hc.1, w32_id, if_pos, bz2_m h2, ifT]
    exact ⟨_, rfl, v, rfl, h2, h3.trans ⟨fun g k a b => g k a (by omega), fun g k a b => g k a (by omega)⟩⟩
  · exact ⟨1, rfl, Or.inr rfl, ⟨fun _ k a b => by omega, fun _ => rfl⟩⟩
theorem x8_isValue (F : FA sh q) {d : Int} {c : Int → Int} (hd : -1 ≤ d ∧ d ≤ 40) (hc : FM I q p d c) : s_X8_isValue q (sh, I, J) = some (if d = -1 then 0 else 1, (sh, I, J)) := by
  unfold s_X8_isValue
  rw [f_gI F, bsome, hc.1, w32_id (by omega) (by omega), show w32 (-1) = -1 from rfl]
  split <;> rfl
theorem x8_same {r : Nat} (F : FA sh q) (G : FA sh r) (hp : Pp p) {d d2 : Int} {c c2 : Int → Int} (hd : -1 ≤ d ∧ d ≤ 40) (hd2 : -1 ≤ d2 ∧ d2 ≤ 40) (hc : FM I q p d c) (hc2 : FM I r p d2 c2) :
    s_X8_same q r (sh, I, J) = some (lkI p d c d2 c2, (sh, I, J)) := by
  have hb2 := hp.b
  unfold s_X8_same
  simp (disch := omega) only [bsome, f_ck F, f_gI F, f_pI F, f_gR F, f_aI F, f_uI F, f_ck G, f_gI G, f_pI G, f_gR G, f_aI G, f_uI G, hc.1, hc2.1, w32_id]
  by_cases hdd : d = d2
  · rw [if_pos hdd]
    unfold s_X8_same_l19
    have h := whileO_upto (f := fun s : Int × Int × Me => s_X8_same_l19_st q r s.1 s.2.1 s.2.2) ((d + 1).toNat + 1) (fun i s => ∃ v : Int, s = (v, (i : Int), ((sh, I, J) : Me)) ∧ (v = 0 ∨ v = 1 ∧ i ≤ (d + 1).toNat) ∧ (v = 1 → ∀ k : Int, 0 ≤ k → k < i → c k % p = c2 k % p) ∧ (v = 0 → ∃ k : Int, 0 ≤ k ∧ k ≤ d ∧ c k % p ≠ c2 k % p))
      (fun x => ∃ v : Int, x = (v, ((sh, I, J) : Me)) ∧ (v = 0 ∨ v = 1) ∧ (v = 1 ↔ d = d2 ∧ ∀ k : Int, 0 ≤ k → k ≤ d → c k % p = c2 k % p)) ?_ ?_ (1, 0, (sh, I, J)) ?_
    · obtain ⟨x, h1, v, h2, h3, h4⟩ := h
      rw [h1, h2, lkI_of hd.1 h3 h4]
    · rintro i s hi ⟨v, rfl, h2, h3, h4⟩
      unfold s_X8_same_l19_st
      dsimp only
      have h2' : v = 0 ∨ v = 1 := h2.elim Or.inl (fun g => Or.inr g.1)
      have hi1 : w32 (i : Int) = i := w32_id (by clear h3 h4; omega) (by clear h3 h4; omega)
      have hd1 : w32 d = d := w32_id (by clear h3 h4; omega) (by clear h3 h4; omega)
      simp only [bsome, f_gI F, f_gR F, f_gR G, hc.1, hi1, hd1, bz2_m h2']
      by_cases hk : d < i
      · right
        rw [if_pos hk]
        refine ⟨_, rfl, v, rfl, h2', ⟨fun e => ⟨hdd, fun k a b => h3 e k a (by omega)⟩, fun e => ?_⟩⟩
        rcases h2' with h0 | h0
        · obtain ⟨k, g1, g2, g3⟩ := h4 h0
          exact absurd (e.2 k g1 g2) g3
        · exact h0
      · rw [if_neg hk]
        rcases h2' with h0 | h0
        · right
          subst h0
          rw [show w32 0 = 0 from rfl, if_pos rfl]
          obtain ⟨k, g1, g2, g3⟩ := h4 rfl
          exact ⟨_, rfl, 0, rfl, Or.inl rfl, ⟨fun e => absurd e (by decide), fun e => absurd (e.2 k g1 g2) g3⟩⟩
        · left
          subst h0
          have e1 := hc.2 i (by clear h3 h4; omega) (by clear h3 h4; omega)
          have e2 := hc2.2 i (by clear h3 h4; omega) (by clear h3 h4; omega)
          have b1 := emod_b hp (c i)
          have b2 := emod_b hp (c2 i)
          have hk0 : (0 : Int) ≤ i ∧ (i : Int) < 41 := by clear h3 h4; omega
          rw [if_neg (show ¬ w32 1 = 0 by decide), f_aI F hk0.1 hk0.2, bsome, f_aI G hk0.1 hk0.2, bsome, e1, e2, w32_id (x := c i % p) (by clear h3 h4; omega) (by clear h3 h4; omega), w32_id (x := c2 i % p) (by clear h3 h4; omega) (by clear h3 h4; omega)]
          by_cases hz : c i % p = c2 i % p
          · rw [if_pos hz]
            refine ⟨_, rfl, 1, by simp, Or.inr ⟨rfl, by clear h3 h4; omega⟩, fun _ k a b => ?_, fun e => absurd e (by decide)⟩
            by_cases e : k = i
            · rw [e, hz]
            · exact h3 rfl k a (by omega)
          · rw [if_neg hz]
            exact ⟨_, rfl, 0, by simp, Or.inl rfl, fun e => absurd e (by decide), fun _ => ⟨i, by clear h3 h4; omega, by clear h3 h4; omega, hz⟩⟩
    · rintro s ⟨v, rfl, h2, h3, h4⟩
      have h0 : v = 0 := h2.elim id (fun g => by clear h3 h4; omega)
      subst h0
      obtain ⟨k, g1, g2, g3⟩ := h4 rfl
      unfold s_X8_same_l19_st
      dsimp only
      rw [f_gI F, bsome, bz2_m (Or.inl rfl : (0 : Int) = 0 ∨ (0 : Int) = 1), bsome, show w32 0 = 0 from rfl, if_pos (rfl : (0 : Int) = 0), if_same]
      exact ⟨_, rfl, 0, rfl, Or.inl rfl, ⟨fun e => absurd e (by decide), fun e => absurd (e.2 k g1 g2) g3⟩⟩
    · exact ⟨1, rfl, Or.inr ⟨rfl, by omega⟩, fun _ k a b => by omega, fun e => absurd e (by decide)⟩
  · rw [if_neg hdd, show lkI p d c d2 c2 = 0 from if_neg hdd]
    unfold s_X8_same_l19
    rw [whileO_eq]
    unfold s_X8_same_l19_st
    dsimp only
    rw [f_gI F, bsome, bz2_m (Or.inl rfl : (0 : Int) = 0 ∨ (0 : Int) = 1), bsome, show w32 0 = 0 from rfl, if_pos (rfl : (0 : Int) = 0), if_same]
    rfl
end CF
