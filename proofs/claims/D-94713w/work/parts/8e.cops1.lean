/-! the component: its state, what is refused, first questions -/
set_option maxRecDepth 100000
/-- an exception takes a cell -/
def exS (sh : Sh) : Sh := ((sh.1.1 + 1, sh.1.2.1 - 1, sh.1.2.2 - 6), up1 sh.2.1 sh.1.1 99, up1 sh.2.2.1 sh.1.1 0, up1 sh.2.2.2 sh.1.1 (fun _ => none))
def exI (sh : Sh) (I : Nat → Int → Int) : Nat → Int → Int := up1 I sh.1.1 (fun _ => 0)
def Room (sh : Sh) : Prop := 1000 ≤ sh.1.2.1 ∧ 10000 ≤ sh.1.2.2
/-- a state lies at S: what the twin's world W says -/
def SR (sh : Sh) (I : Nat → Int → Int) (S : Nat) (W : Int → Int) : Prop :=
  ((I S 4 = W 0 ∧ I S 5 = W 1 ∧ I S 6 = W 2 ∧ I S 7 = W 3) ∧ I S 9 = W 4 ∧ I S 8 = W 4 + W 5) ∧
  (∀ f : Nat, (f : Int) < W 1 → FM I (S + 13 + 2 * f) (W 0) (fD W f) (fC W f)) ∧
  (∀ t : Nat, (t : Int) < W 2 → ∀ i : Int, 0 ≤ i → i < 4 → I (S + 3 + t) i = tT W t i) ∧
  (∀ s : Nat, (s : Int) < W 3 → ∃ (t : TT) (a : Nat), sh.2.2.2 (S + 11) s = some a ∧ SgW W s t.1 t.2 ∧ SA sh I t.1 t.2 a ∧ t.1 ≤ 200) ∧
  ∃ G : Nat → Nat → Int → Int, (∀ f : Nat, (f : Int) < W 1 → ∀ j : Int, 0 ≤ j → j ≤ fD W f → G (W 4).toNat f j % W 0 = fC W f j % W 0) ∧
    ∀ k : Nat, (k : Int) < W 4 + W 5 → ∃ i : Nat, i < 40 ∧ sh.2.2.2 (S + 12) k = some (S + 45 + 5 * i) ∧ I (S + 45 + 5 * i) 2 = aA W k 0 ∧
      FM I (S + 45 + 5 * i + 1) (W 0) (fD W (aA W k 0)) (G k (aA W k 0).toNat) ∧ FM I (S + 45 + 5 * i + 3) (W 0) (fD W (aA W k 0)) (G (k + 1) (aA W k 0).toNat) ∧
      (∀ j : Int, 0 ≤ j → j ≤ fD W (aA W k 0) → G (k + 1) (aA W k 0).toNat j % W 0 = mixP (fD W (aA W k 0)).toNat (aA W k 1) (aA W k 2) (aA W k 3) (aA W k 4) (G k (aA W k 0).toNat) j % W 0) ∧
      ∀ f : Nat, f ≠ (aA W k 0).toNat → G (k + 1) f = G k f
/-- scratch of the component -/
def xS (x a : Nat) : Prop := (x + 7 ≤ a ∧ a ≤ x + 15) ∨ (x + 507 ≤ a ∧ a ≤ x + 514) ∨ (x + 516 ≤ a ∧ a ≤ x + 523) ∨ (x + 525 ≤ a ∧ a ≤ x + 546) ∨ a = x + 549 ∨ (x + 550 ≤ a ∧ a ≤ x + 677)
/-- answered; refused -/
def CG (y : Option (Ex ⊕ (Int × Me))) (sh : Sh) (I J : Nat → Int → Int) (x : Nat) (r : Int) : Prop := ∃ I', y = some (.inr (r, (sh, I', J))) ∧ AF (xS x) I I'
def CB {α : Type} (y : Option (Ex ⊕ α)) (sh : Sh) (I J : Nat → Int → Int) (k : Nat) : Prop := y = some (.inl (k, sh.1.1, (exS sh, exI sh I, exI sh J)))
theorem xb_l {α β : Type} {e : Ex} {g : Ex → Option β} {f : α → Option β} : xb (some (.inl e)) g f = g e := rfl
theorem xb_r {α β : Type} {v : α} {g : Ex → Option β} {f : α → Option β} : xb (some (.inr v)) g f = f v := rfl
theorem x1_isIn {y lo hi : Int} {μ : Me} (hy : -9223372036854775808 ≤ y ∧ y < 9223372036854775808) (hl : -9223372036854775808 ≤ lo ∧ lo < 9223372036854775808) (hh : -9223372036854775808 ≤ hi ∧ hi < 9223372036854775808) : s_X1_isIn y lo hi μ = some (if lo ≤ y ∧ y ≤ hi then 1 else 0, μ) := by
  unfold s_X1_isIn
  rw [w64_id hy.1 hy.2, w64_id hl.1 hl.2, w64_id hh.1 hh.2]
  by_cases h1 : y < lo
  · rw [if_pos h1, if_neg (by omega)]
  · rw [if_neg h1]
    by_cases h2 : hi < y
    · rw [if_pos h2, if_neg (by omega)]
    · rw [if_neg h2, if_pos (by omega)]
theorem bd_mul {a b : Int} (ha : -100000 ≤ a ∧ a ≤ 100000) (hb : -100000 ≤ b ∧ b ≤ 100000) : -(100000 * 100000) ≤ a * b ∧ a * b ≤ 100000 * 100000 := by
  have h1 : a.natAbs * b.natAbs ≤ 100000 * 100000 := Nat.mul_le_mul (by omega) (by omega)
  have h2 : (a * b).natAbs ≤ 100000 * 100000 := by rw [Int.natAbs_mul]; exact h1
  omega
section CO
variable {sh : Sh} {I J : Nat → Int → Int} {x : Nat} {p : Int}
theorem tE_m (R : Room sh) (k : Nat) : tE (sh, I, J) k = some (k, sh.1.1, (exS sh, exI sh I, exI sh J)) := by
  unfold tE nC
  obtain ⟨h1, h2⟩ := R
  rw [if_pos (show 1 ≤ sh.1.2.1 ∧ 6 ≤ sh.1.2.2 by omega)]
  rfl
theorem CG.of {y : Option (Ex ⊕ (Int × Me))} {r : Int} (h : y = some (.inr (r, (sh, I, J)))) : CG y sh I J x r := ⟨I, h, AF.refl⟩
theorem x1_mustBe0 (R : Room sh) : s_X1_mustBe 0 (sh, I, J) = some (.inl (3, sh.1.1, (exS sh, exI sh I, exI sh J))) := by
  unfold s_X1_mustBe
  rw [if_pos (show w32 0 = 0 from rfl), tE_m R, bsome]
theorem x1_mustBe1 {μ : Me} : s_X1_mustBe 1 μ = some (.inr μ) := if_neg (by decide)
theorem x1_must0 (R : Room sh) : s_X1_must 0 (sh, I, J) = some (.inl (0, sh.1.1, (exS sh, exI sh I, exI sh J))) := by
  unfold s_X1_must
  rw [if_pos (show w32 0 = 0 from rfl), tE_m R, bsome]
theorem x1_must1 {μ : Me} : s_X1_must 1 μ = some (.inr μ) := if_neg (by decide)
theorem x1_mayBe0 (R : Room sh) : s_X1_mayBe 0 (sh, I, J) = some (.inl (2, sh.1.1, (exS sh, exI sh I, exI sh J))) := by
  unfold s_X1_mayBe
  rw [if_pos (show w32 0 = 0 from rfl), tE_m R, bsome]
theorem x1_mayBe1 {μ : Me} : s_X1_mayBe 1 μ = some (.inr μ) := if_neg (by decide)
theorem x1_thereIs0 (R : Room sh) : s_X1_thereIs 0 (sh, I, J) = some (.inl (4, sh.1.1, (exS sh, exI sh I, exI sh J))) := by
  unfold s_X1_thereIs
  rw [if_pos (show w32 0 = 0 from rfl), tE_m R, bsome]
theorem x1_thereIs1 {μ : Me} : s_X1_thereIs 1 μ = some (.inr μ) := if_neg (by decide)
theorem x1_formAt (L : CL sh x) (R : Room sh) {n k : Int} (hn : I (x + 16) 5 = n) (h0 : 0 ≤ n ∧ n ≤ 16) (hk : i32 k) :
    ((0 ≤ k ∧ k < n) → s_X1_formAt x k (sh, I, J) = some (.inr (x + 16 + 13 + 2 * k.toNat, (sh, I, J)))) ∧ (¬(0 ≤ k ∧ k < n) → CB (s_X1_formAt x k (sh, I, J)) sh I J 3) := by
  have T := L.st
  unfold i32 at hk
  unfold CB s_X1_formAt
  rw [l_st L, bsome, s_gI T, bsome, hn, w32_id hk.1 hk.2, w32_id (x := n - 1) (by omega) (by omega), x1_isIn (by omega) (by omega) (by omega), bsome]
  dsimp only
  refine ⟨fun h => ?_, fun h => ?_⟩
  · rw [if_pos (by omega), x1_mustBe1, xb_r, l_st L, bsome, s_fo T, bsome]
    have := s_form (I := I) (J := J) T (k := k.toNat) (by omega)
    rw [Int.toNat_of_nonneg h.1] at this
    rw [this, bsome]
  · rw [if_neg (by omega), x1_mustBe0 R, xb_l]
theorem x1_tableAt (L : CL sh x) (R : Room sh) {n k : Int} (hn : I (x + 16) 6 = n) (h0 : 0 ≤ n ∧ n ≤ 8) (hk : i32 k) :
    ((0 ≤ k ∧ k < n) → s_X1_tableAt x k (sh, I, J) = some (.inr (x + 16 + 3 + k.toNat, (sh, I, J)))) ∧ (¬(0 ≤ k ∧ k < n) → CB (s_X1_tableAt x k (sh, I, J)) sh I J 3) := by
  have T := L.st
  unfold i32 at hk
  unfold CB s_X1_tableAt
  rw [l_st L, bsome, s_gI T, bsome, hn, w32_id hk.1 hk.2, w32_id (x := n - 1) (by omega) (by omega), x1_isIn (by omega) (by omega) (by omega), bsome]
  dsimp only
  refine ⟨fun h => ?_, fun h => ?_⟩
  · rw [if_pos (by omega), x1_mustBe1, xb_r, l_st L, bsome, s_tb T, bsome]
    have := s_table (I := I) (J := J) T (k := k.toNat) (by omega)
    rw [Int.toNat_of_nonneg h.1] at this
    rw [this, bsome]
  · rw [if_neg (by omega), x1_mustBe0 R, xb_l]
theorem x1_signAt (L : CL sh x) (R : Room sh) {n k : Int} (hn : I (x + 16) 7 = n) (h0 : 0 ≤ n ∧ n ≤ 8) (hk : i32 k) :
    ((0 ≤ k ∧ k < n) → ∀ a, sh.2.2.2 (x + 16 + 11) k = some a → s_X1_signAt x k (sh, I, J) = some (.inr (a, (sh, I, J)))) ∧ (¬(0 ≤ k ∧ k < n) → CB (s_X1_signAt x k (sh, I, J)) sh I J 3) := by
  have T := L.st
  unfold i32 at hk
  unfold CB s_X1_signAt
  rw [l_st L, bsome, s_gI T, bsome, hn, w32_id hk.1 hk.2, w32_id (x := n - 1) (by omega) (by omega), x1_isIn (by omega) (by omega) (by omega), bsome]
  dsimp only
  refine ⟨fun h a ha => ?_, fun h => ?_⟩
  · rw [if_pos (by omega), x1_mustBe1, xb_r, l_st L, bsome, s_sg T, bsome]
    have := s_sign (I := I) (J := J) T (k := k.toNat) (a := a) (by omega) (by rw [Int.toNat_of_nonneg h.1]; exact ha)
    rw [Int.toNat_of_nonneg h.1] at this
    rw [this, bsome]
  · rw [if_neg (by omega), x1_mustBe0 R, xb_l]
theorem x1_tells {q : Nat} (F : FA sh q) {d k : Int} {c : Int → Int} (hd : -1 ≤ d ∧ d ≤ 40) (hk : i32 k) (h : FM I q p d c) : s_X1_tells q k (sh, I, J) = some (tellP d c p k, (sh, I, J)) := by
  unfold i32 at hk
  unfold s_X1_tells tellP
  rw [w32_id hk.1 hk.2, show w32 (-1) = -1 from rfl]
  by_cases h1 : k = -1
  · rw [if_pos h1, if_pos h1, f_gI F, bsome, h.1]
  · rw [if_neg h1, if_neg h1, f_gI F, bsome, h.1, w32_id (x := d) (by omega) (by omega), x1_isIn (by omega) (by omega) (by omega), bsome]
    dsimp only
    by_cases h2 : 0 ≤ k ∧ k ≤ d
    · rw [if_pos h2, if_neg (by decide), if_pos h2, f_gR F, bsome, f_aI F h2.1 (by omega), bsome, h.2 k h2.1 h2.2]
    · rw [if_neg h2, if_pos (show w32 0 = 0 from rfl), if_neg h2]
-- with the world
variable {W : Int → Int}
theorem SR.fm (hS : SR sh I (x + 16) W) (hW : WI W) {k : Int} (h0 : 0 ≤ k) (h1 : k < W 1) : FM I (x + 16 + 13 + 2 * k.toNat) (W 0) (fD W k) (fC W k) ∧ 0 ≤ fD W k ∧ fD W k ≤ 8 := by
  have := hS.2.1 k.toNat (by omega)
  rw [Int.toNat_of_nonneg h0] at this
  exact ⟨this, (hW.f h0 h1).1⟩
theorem SR.ff (hS : SR sh I (x + 16) W) (hW : WI W) {k : Int} (h0 : 0 ≤ k) (h1 : k < W 1) : FM I (x + 16 + 13 + 2 * k.toNat) (W 0) (fF W k).1 (fF W k).2 ∧ (fF W k).1 ≤ 8 := by
  obtain ⟨g1, g2⟩ := hS.fm hW h0 h1
  unfold fF
  rw [show (((fD W k).toNat : Nat) : Int) = fD W k by omega]
  exact ⟨g1, by omega⟩
theorem CL.q (L : CL sh x) {k : Int} (h1 : k < 16) : FA sh (x + 16 + 13 + 2 * k.toNat) := L.st.ff (by omega)
theorem x_look (L : CL sh x) (R : Room sh) (hS : SR sh I (x + 16) W) (hW : WI W) {f k : Int} (hf : i32 f) (hk : i32 k) :
    ((0 ≤ f ∧ f < W 1) → CG (s_X1_look x f k (sh, I, J)) sh I J x (tellP (fD W f) (fC W f) (W 0) k)) ∧ (¬(0 ≤ f ∧ f < W 1) → CB (s_X1_look x f k (sh, I, J)) sh I J 3) := by
  have hc := hW.c1
  obtain ⟨y1, y2⟩ := x1_formAt (J := J) L R (n := W 1) hS.1.1.2.1 (by omega) hf
  unfold s_X1_look
  rw [l_ck L, bsome]
  refine ⟨fun h => CG.of ?_, fun h => ?_⟩
  · obtain ⟨g1, g2⟩ := hS.fm hW h.1 h.2
    rw [y1 h, xb_r, x1_tells (L.q (by omega)) (by omega) hk g1, bsome]
  · have := y2 h
    unfold CB at this ⊢
    rw [this, xb_l]
theorem x_at (L : CL sh x) (R : Room sh) (hS : SR sh I (x + 16) W) (hI : I (x + 5 + 1) 0 = W 0) (hW : WI W) {f u v : Int} (hf : i32 f) (hu : i32 u) (hv : i32 v) :
    ((0 ≤ f ∧ f < W 1) → CG (s_X1_at x f u v (sh, I, J)) sh I J x (evP (fD W f) (fC W f) u v % W 0)) ∧ (¬(0 ≤ f ∧ f < W 1) → CB (s_X1_at x f u v (sh, I, J)) sh I J 3) := by
  have hc := hW.c1
  have D := L.dl
  unfold i32 at hu hv
  obtain ⟨y1, y2⟩ := x1_formAt (J := J) L R (n := W 1) hS.1.1.2.1 (by omega) hf
  unfold s_X1_at
  rw [l_ck L, bsome]
  refine ⟨fun h => CG.of ?_, fun h => ?_⟩
  · obtain ⟨g1, g2⟩ := hS.fm hW h.1 h.2
    rw [y1 h, xb_r, l_dk L, bsome, bsome, d_f D, bsome, d_ckf D, bsome, w32_id hu.1 hu.2, x7_of D.ff hI hW.pp (by omega) (by omega), bsome]
    dsimp only
    rw [l_dk L, bsome, d_f D, bsome, d_ckf D, bsome, w32_id hv.1 hv.2, x7_of D.ff hI hW.pp (by omega) (by omega), bsome]
    dsimp only
    rw [d_ck D, bsome, x6_at D hI hW.pp u v (L.q (by omega)) (by omega) g1, bsome]
  · have := y2 h
    unfold CB at this ⊢
    rw [this, xb_l]
theorem x1_detOf (L : CL sh x) (hI : I (x + 5 + 1) 0 = p) (hp : Pp p) {a b c d : Int} (ha : -100000 ≤ a ∧ a ≤ 100000) (hb : -100000 ≤ b ∧ b ≤ 100000) (hc : -100000 ≤ c ∧ c ≤ 100000) (hd : -100000 ≤ d ∧ d ≤ 100000) : s_X1_detOf x a b c d (sh, I, J) = some (dtP a b c d % p, (sh, I, J)) := by
  have D := L.dl
  have h1 : -(100000 * 100000) ≤ a * d ∧ a * d ≤ 100000 * 100000 := bd_mul ha hd
  have h2 : -(100000 * 100000) ≤ b * c ∧ b * c ≤ 100000 * 100000 := bd_mul hb hc
  unfold s_X1_detOf dtP
  rw [l_dk L, bsome, d_f D, bsome, d_ckf D, bsome, w32_id (x := a) (by omega) (by omega), w32_id (x := b) (by omega) (by omega), w32_id (x := c) (by omega) (by omega), w32_id (x := d) (by omega) (by omega), x7_of D.ff hI hp (by omega) (by omega), bsome]
theorem SR.tb (hS : SR sh I (x + 16) W) {t : Int} (h0 : 0 ≤ t) (h1 : t < W 2) {i : Int} (hi : 0 ≤ i) (h4 : i < 4) : I (x + 16 + 3 + t.toNat) i = tT W t i := by
  have := hS.2.2.1 t.toNat (by omega) i hi h4
  rw [Int.toNat_of_nonneg h0] at this
  exact this
theorem x1_ta (L : CL sh x) (hS : SR sh I (x + 16) W) (hW : WI W) {t : Int} (h0 : 0 ≤ t) (h1 : t < W 2) {i : Int} (hi : 0 ≤ i) (h4 : i < 4) : aI (sh, I, J) 101 (x + 16 + 3 + t.toNat) i = some (tT W t i) := by
  have hc := hW.c2
  rw [aI_m (L.st.ta (k := t.toNat) (by omega)) hi h4, hS.tb h0 h1 hi h4]
theorem x_det (L : CL sh x) (R : Room sh) (hS : SR sh I (x + 16) W) (hI : I (x + 5 + 1) 0 = W 0) (hW : WI W) {t : Int} (ht : i32 t) :
    ((0 ≤ t ∧ t < W 2) → CG (s_X1_det x t (sh, I, J)) sh I J x (dtP (tT W t 0) (tT W t 1) (tT W t 2) (tT W t 3) % W 0)) ∧ (¬(0 ≤ t ∧ t < W 2) → CB (s_X1_det x t (sh, I, J)) sh I J 3) := by
  have hc := hW.c2
  have hb := hW.pp.b
  obtain ⟨y1, y2⟩ := x1_tableAt (J := J) L R (n := W 2) hS.1.1.2.2.1 (by omega) ht
  unfold s_X1_det
  rw [l_ck L, bsome]
  refine ⟨fun h => CG.of ?_, fun h => ?_⟩
  · obtain ⟨t1, t2, t3, t4, -⟩ := hW.t h.1 h.2
    rw [y1 h, xb_r, x1_ta L hS hW h.1 h.2 (by omega) (by omega), bsome, x1_ta L hS hW h.1 h.2 (by omega) (by omega), bsome, x1_ta L hS hW h.1 h.2 (by omega) (by omega), bsome, x1_ta L hS hW h.1 h.2 (by omega) (by omega), bsome, l_ck L, bsome, x1_detOf L hI hW.pp (by omega) (by omega) (by omega) (by omega), bsome]
  · have := y2 h
    unfold CB at this ⊢
    rw [this, xb_l]
theorem x_told (L : CL sh x) (R : Room sh) (hS : SR sh I (x + 16) W) (hW : WI W) {t k : Int} (ht : i32 t) (hk : i32 k) :
    ((0 ≤ t ∧ t < W 2) → CG (s_X1_told x t k (sh, I, J)) sh I J x (if 0 ≤ k ∧ k ≤ 3 then tT W t k else -1)) ∧ (¬(0 ≤ t ∧ t < W 2) → CB (s_X1_told x t k (sh, I, J)) sh I J 3) := by
  have hc := hW.c2
  unfold i32 at hk
  obtain ⟨y1, y2⟩ := x1_tableAt (J := J) L R (n := W 2) hS.1.1.2.2.1 (by omega) ht
  unfold s_X1_told
  rw [l_ck L, bsome]
  refine ⟨fun h => CG.of ?_, fun h => ?_⟩
  · rw [y1 h, xb_r, w32_id hk.1 hk.2, x1_isIn (by omega) (by omega) (by omega), bsome]
    dsimp only
    by_cases h2 : 0 ≤ k ∧ k ≤ 3
    · rw [if_pos h2, if_neg (by decide), if_pos h2, x1_ta L hS hW h.1 h.2 h2.1 (by omega), bsome]
    · rw [if_neg h2, if_pos (show w32 0 = 0 from rfl), if_neg h2]
  · have := y2 h
    unfold CB at this ⊢
    rw [this, xb_l]
end CO
