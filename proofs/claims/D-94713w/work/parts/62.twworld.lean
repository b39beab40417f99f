/-! the twin: the world, what is thrown, what stays -/
set_option maxRecDepth 100000
def i32 (x : Int) : Prop := -2147483648 ≤ x ∧ x < 2147483648
/-- so much is thrown -/
def thr (I : Nat → Int → Int) (m : Nat) (c : Int) : Nat → Int → Int := up1 I m (upz (I m) 0 c)
theorem thr_n {I : Nat → Int → Int} {m : Nat} {c : Int} {a : Nat} (h : a ≠ m) : thr I m c a = I a := up1_n _ _ h
theorem thr_k {I : Nat → Int → Int} {m : Nat} {c k : Int} (h : k ≠ 0) : thr I m c m k = I m k := by
  unfold thr
  rw [up1_s, upz_n _ _ h]
theorem thr_0 {I : Nat → Int → Int} {m : Nat} {c : Int} : thr I m c m 0 = c := by
  unfold thr
  rw [up1_s, upz_s]
theorem upz_upz {α : Type} (f : Int → α) (k : Int) (v w : α) : upz (upz f k v) k w = upz f k w := by
  funext j
  unfold upz
  split <;> rfl
theorem thr_thr {I : Nat → Int → Int} {m : Nat} {c e : Int} : thr (thr I m c) m e = thr I m e := by
  unfold thr
  rw [up1_up1, up1_s, upz_upz]
/-- what a question leaves: the world, the image, the tape and all outside of the twin stay, and of its own numbers thrown, hasImage, taped, faultAt -/
def HK (m : Nat) (I I' : Nat → Int → Int) : Prop :=
  (∀ a : Nat, a ≠ m → (a < m + 3 ∨ m + 15 < a ∨ a = m + 5) → I' a = I a) ∧ ∀ k : Int, (k = 0 ∨ k = 3 ∨ k = 11 ∨ k = 17) → I' m k = I m k
def HJ (m : Nat) (J J' : Nat → Int → Int) : Prop := ∀ a : Nat, (a < m ∨ m + 15 < a) → J' a = J a
theorem HK.refl {m : Nat} {I : Nat → Int → Int} : HK m I I := ⟨fun _ _ _ => rfl, fun _ _ => rfl⟩
theorem HJ.refl {m : Nat} {J : Nat → Int → Int} : HJ m J J := fun _ _ => rfl
theorem HK.trans {m : Nat} {I I' I2 : Nat → Int → Int} (h : HK m I I') (h2 : HK m I' I2) : HK m I I2 := ⟨fun a x y => (h2.1 a x y).trans (h.1 a x y), fun k x => (h2.2 k x).trans (h.2 k x)⟩
theorem HJ.trans {m : Nat} {I I' I2 : Nat → Int → Int} (h : HJ m I I') (h2 : HJ m I' I2) : HJ m I I2 := fun a x => (h2 a x).trans (h a x)
theorem RF.hk {m : Nat} {S : Int → Prop} {I I' : Nat → Int → Int} (h : RF m S I I') : HK m I I' := ⟨fun a x y => h.1 a (by omega) (by omega), fun k _ => by rw [h.1 m (by omega) (by omega)]⟩
theorem HK.w {m : Nat} {I I' : Nat → Int → Int} (h : HK m I I') : I' (m + 1) = I (m + 1) := h.1 (m + 1) (by omega) (by omega)
theorem RF.w {m : Nat} {S : Int → Prop} {I I' : Nat → Int → Int} (h : RF m S I I') : I' (m + 1) = I (m + 1) := h.1 (m + 1) (by omega) (by omega)
/-- a number of the twin's own is changed -/
theorem HK.own {m : Nat} {I : Nat → Int → Int} {k v : Int} (h : k ≠ 0 ∧ k ≠ 3 ∧ k ≠ 11 ∧ k ≠ 17) : HK m I (up1 I m (upz (I m) k v)) := by
  refine ⟨fun a x y => up1_n _ _ x, fun j hj => ?_⟩
  rw [up1_s, upz_n _ _ (by omega)]
theorem HK.arr {m : Nat} {I : Nat → Int → Int} {a : Nat} {f : Int → Int} (h : m + 3 ≤ a ∧ a ≤ m + 15 ∧ a ≠ m + 5) : HK m I (up1 I a f) := by
  refine ⟨fun b x y => up1_n _ _ (by omega), fun j hj => ?_⟩
  rw [up1_n _ _ (by omega)]
theorem HJ.arr {m : Nat} {J : Nat → Int → Int} {a : Nat} {f : Int → Int} (h : m ≤ a ∧ a ≤ m + 15) : HJ m J (up1 J a f) := fun b hb => up1_n _ _ (by omega)
/-- a question that is answered; one that is refused -/
def QG (x : Option (Int × Me)) (sh : Sh) (I J : Nat → Int → Int) (m : Nat) (r : Int) : Prop := ∃ I' J', x = some (r, (sh, I', J')) ∧ HK m (thr I m 0) I' ∧ HJ m J J'
def QB (x : Option (Int × Me)) (sh : Sh) (I J : Nat → Int → Int) (m : Nat) (c : Int) : Prop := ∃ r I' J', x = some (r, (sh, I', J')) ∧ HK m (thr I m c) I' ∧ HJ m J J'
-- the world's parts
def fD (W : Int → Int) (f : Int) : Int := W (6 + 10 * f)
def fC (W : Int → Int) (f : Int) : Int → Int := fun k => W (7 + 10 * f + k)
def tT (W : Int → Int) (t i : Int) : Int := W (166 + 4 * t + i)
def dtP (a b c d : Int) : Int := a * d - b * c
/-- the numbers of a form, of a table are below p -/
def wF (W : Int → Int) (f : Int) : Prop := (0 ≤ fD W f ∧ fD W f ≤ 8) ∧ ∀ k : Int, 0 ≤ k → k ≤ fD W f → 0 ≤ fC W f k ∧ fC W f k < W 0
def wT (p a b c d : Int) : Prop := (0 ≤ a ∧ a < p) ∧ (0 ≤ b ∧ b < p) ∧ (0 ≤ c ∧ c < p) ∧ (0 ≤ d ∧ d < p) ∧ dtP a b c d % p ≠ 0
def aA (W : Int → Int) (a i : Int) : Int := W (3406 + 5 * a + i)
def WI (W : Int → Int) : Prop :=
  Pp (W 0) ∧ (0 ≤ W 1 ∧ W 1 ≤ 16) ∧ (0 ≤ W 2 ∧ W 2 ≤ 8) ∧ (0 ≤ W 3 ∧ W 3 ≤ 8) ∧ (0 ≤ W 4 ∧ 0 ≤ W 5 ∧ W 4 + W 5 ≤ 40) ∧
  (∀ f, 0 ≤ f → f < W 1 → wF W f) ∧ (∀ t, 0 ≤ t → t < W 2 → wT (W 0) (tT W t 0) (tT W t 1) (tT W t 2) (tT W t 3)) ∧
  ∀ a, 0 ≤ a → a < W 4 + W 5 → (0 ≤ aA W a 0 ∧ aA W a 0 < W 1) ∧ wT (W 0) (aA W a 1) (aA W a 2) (aA W a 3) (aA W a 4)
theorem WI.pp {W : Int → Int} (h : WI W) : Pp (W 0) := h.1
theorem WI.c1 {W : Int → Int} (h : WI W) : 0 ≤ W 1 ∧ W 1 ≤ 16 := h.2.1
theorem WI.c2 {W : Int → Int} (h : WI W) : 0 ≤ W 2 ∧ W 2 ≤ 8 := h.2.2.1
theorem WI.c3 {W : Int → Int} (h : WI W) : 0 ≤ W 3 ∧ W 3 ≤ 8 := h.2.2.2.1
theorem WI.c4 {W : Int → Int} (h : WI W) : 0 ≤ W 4 ∧ 0 ≤ W 5 ∧ W 4 + W 5 ≤ 40 := h.2.2.2.2.1
theorem WI.f {W : Int → Int} (h : WI W) {f : Int} (h0 : 0 ≤ f) (h1 : f < W 1) : wF W f := h.2.2.2.2.2.1 f h0 h1
theorem WI.t {W : Int → Int} (h : WI W) {t : Int} (h0 : 0 ≤ t) (h1 : t < W 2) : wT (W 0) (tT W t 0) (tT W t 1) (tT W t 2) (tT W t 3) := h.2.2.2.2.2.2.1 t h0 h1
theorem WI.a {W : Int → Int} (h : WI W) {a : Int} (h0 : 0 ≤ a) (h1 : a < W 4 + W 5) : (0 ≤ aA W a 0 ∧ aA W a 0 < W 1) ∧ wT (W 0) (aA W a 1) (aA W a 2) (aA W a 3) (aA W a 4) := h.2.2.2.2.2.2.2 a h0 h1
/-- a number that is told -/
def tellP (d : Int) (c : Int → Int) (p k : Int) : Int := if k = -1 then d else if 0 ≤ k ∧ k ≤ d then c k % p else -1
theorem x_in {x lo hi : Int} (hx : i32 x) (hlo : i32 lo) (hhi : i32 hi) (μ : Me) : s_X11_in x lo hi μ = some (if lo ≤ x ∧ x ≤ hi then 1 else 0, μ) := by
  unfold s_X11_in
  rw [w32_id hx.1 hx.2, w32_id hlo.1 hlo.2, w32_id hhi.1 hhi.2]
  by_cases h1 : x < lo
  · rw [if_pos h1, if_neg (by omega)]
  · rw [if_neg h1]
    by_cases h2 : hi < x
    · rw [if_pos h2, if_neg (by omega)]
    · rw [if_neg h2, if_pos (by omega)]
section TW
variable {sh : Sh} {I J : Nat → Int → Int} {m : Nat} {p : Int}
theorem t_thr (T : TL sh m) (c : Int) : pI (sh, I, J) 9 m 0 c = some (sh, thr I m c, J) := t_pI T 0 c
theorem t_if0 (c : Int) : s_X11_throwsIf m 0 c (sh, I, J) = some (0, (sh, I, J)) := by
  unfold s_X11_throwsIf
  rw [show w32 0 = 0 from rfl, if_pos rfl, bz2_m (Or.inl rfl), bsome]
theorem t_if1 (T : TL sh m) (c : Int) : s_X11_throwsIf m 1 c (sh, I, J) = some (1, (sh, thr I m c, J)) := by
  unfold s_X11_throwsIf
  rw [show w32 1 = 1 from rfl, if_neg (by decide), t_thr T, bsome, bz2_m (Or.inr rfl), bsome]
theorem t_noF (T : TL sh m) (hW : 0 ≤ I (m + 1) 1 ∧ I (m + 1) 1 ≤ 16) {f : Int} (hf : i32 f) : s_X11_noForm m f (sh, I, J) = some (if 0 ≤ f ∧ f < I (m + 1) 1 then 0 else 1, (sh, I, J)) := by
  unfold s_X11_noForm
  simp (disch := omega) only [bsome, t_ck T, t_gI T, t_pI T, t_gJ T, t_pJ T, tR_world T, tA_world T, tU_world T]
  rw [x_in hf ⟨by omega, by omega⟩ ⟨by omega, by omega⟩, bsome]
  dsimp only
  by_cases h : 0 ≤ f ∧ f < I (m + 1) 1
  · rw [if_pos (show 0 ≤ f ∧ f ≤ I (m + 1) 1 - 1 by omega), if_pos h]; rfl
  · rw [if_neg (show ¬(0 ≤ f ∧ f ≤ I (m + 1) 1 - 1) by omega), if_neg h]; rfl
theorem t_noT (T : TL sh m) (hW : 0 ≤ I (m + 1) 2 ∧ I (m + 1) 2 ≤ 8) {f : Int} (hf : i32 f) : s_X11_noTable m f (sh, I, J) = some (if 0 ≤ f ∧ f < I (m + 1) 2 then 0 else 1, (sh, I, J)) := by
  unfold s_X11_noTable
  simp (disch := omega) only [bsome, t_ck T, t_gI T, t_pI T, t_gJ T, t_pJ T, tR_world T, tA_world T, tU_world T]
  rw [x_in hf ⟨by omega, by omega⟩ ⟨by omega, by omega⟩, bsome]
  dsimp only
  by_cases h : 0 ≤ f ∧ f < I (m + 1) 2
  · rw [if_pos (show 0 ≤ f ∧ f ≤ I (m + 1) 2 - 1 by omega), if_pos h]; rfl
  · rw [if_neg (show ¬(0 ≤ f ∧ f ≤ I (m + 1) 2 - 1) by omega), if_neg h]; rfl
theorem t_noS (T : TL sh m) (hW : 0 ≤ I (m + 1) 3 ∧ I (m + 1) 3 ≤ 8) {f : Int} (hf : i32 f) : s_X11_noSigns m f (sh, I, J) = some (if 0 ≤ f ∧ f < I (m + 1) 3 then 0 else 1, (sh, I, J)) := by
  unfold s_X11_noSigns
  simp (disch := omega) only [bsome, t_ck T, t_gI T, t_pI T, t_gJ T, t_pJ T, tR_world T, tA_world T, tU_world T]
  rw [x_in hf ⟨by omega, by omega⟩ ⟨by omega, by omega⟩, bsome]
  dsimp only
  by_cases h : 0 ≤ f ∧ f < I (m + 1) 3
  · rw [if_pos (show 0 ≤ f ∧ f ≤ I (m + 1) 3 - 1 by omega), if_pos h]; rfl
  · rw [if_neg (show ¬(0 ≤ f ∧ f ≤ I (m + 1) 3 - 1) by omega), if_neg h]; rfl
theorem t_degreeOf (T : TL sh m) {f : Int} (h0 : 0 ≤ f) (h1 : f < 16) : s_X11_degreeOf m f (sh, I, J) = some (fD (I (m + 1)) f, (sh, I, J)) := by
  unfold s_X11_degreeOf s_X11_formAt
  simp (disch := omega) only [bsome, t_ck T, t_gI T, t_pI T, t_gJ T, t_pJ T, tR_world T, tA_world T, tU_world T]
  rfl
theorem t_numberOf (T : TL sh m) {f k : Int} (h0 : 0 ≤ f) (h1 : f < 16) (h2 : 0 ≤ k) (h3 : k < 9) : s_X11_numberOf m f k (sh, I, J) = some (fC (I (m + 1)) f k, (sh, I, J)) := by
  unfold s_X11_numberOf s_X11_formAt
  simp (disch := omega) only [bsome, t_ck T, t_gI T, t_pI T, t_gJ T, t_pJ T, tR_world T, tA_world T, tU_world T]
  unfold fC
  rw [show 6 + 10 * f + 1 + k = 7 + 10 * f + k by omega]
theorem t_ofTable (T : TL sh m) {t i : Int} (h0 : 0 ≤ t) (h1 : t < 8) (h2 : 0 ≤ i) (h3 : i < 4) : s_X11_ofTable m t i (sh, I, J) = some (tT (I (m + 1)) t i, (sh, I, J)) := by
  unfold s_X11_ofTable
  simp (disch := omega) only [bsome, t_ck T, t_gI T, t_pI T, t_gJ T, t_pJ T, tR_world T, tA_world T, tU_world T]
  rfl
theorem t_takes (T : TL sh m) (hI : I (m + 1) 0 = p) {r f : Int} (hr : 0 ≤ r ∧ r < 48) (hf : 0 ≤ f ∧ f < 16) (hF : wF (I (m + 1)) f) :
    ∃ I', s_X11_takes m r f (sh, I, J) = some (sh, I', J) ∧ RW I' m p r (fD (I (m + 1)) f) (fC (I (m + 1)) f) ∧ RF m (fun q => q = r) I I' := by
  obtain ⟨hF1, hF2⟩ := hF
  obtain ⟨d, hd⟩ : ∃ d, fD (I (m + 1)) f = d := ⟨_, rfl⟩
  rw [hd] at hF1 hF2 ⊢
  unfold s_X11_takes
  simp (disch := omega) only [bsome, t_ck T, t_gI T, t_pI T, t_gJ T, t_pJ T, tR_deg T, tA_deg T, tU_deg T, t_degreeOf T hf.1 hf.2, hd]
  unfold s_X11_takes_l13
  have h := arr_loop (f := fun s : Int × Me => s_X11_takes_l13_st m r f s.1 s.2) (sh := sh) (I := up1 I (m + 3) (upz (I (m + 3)) r d)) (J := J) (m + 4) (41 * r) 0 (d + 1).toNat (fun i => fC (I (m + 1)) f i) (r := (sh, up1 (up1 I (m + 3) (upz (I (m + 3)) r d)) (m + 4) (wr (up1 I (m + 3) (upz (I (m + 3)) r d) (m + 4)) (41 * r) (d + 1).toNat (fun i => fC (I (m + 1)) f i)), J)) ?_ ?_
  · rw [h, up1_n I _ (show m + 4 ≠ m + 3 by omega)]
    refine ⟨_, rfl, row_wr hr (by omega) (upz_s _ _ _) (by omega) (fun q hq => upz_n _ _ hq) (fun k a b => ?_)⟩
    have h9 := hF2 k a b
    rw [Int.toNat_of_nonneg a, Int.emod_eq_of_lt h9.1 (by rw [← hI]; exact h9.2)]
  · intro i hi
    unfold s_X11_takes_l13_st
    dsimp only
    rw [up1_n I _ (show m + 4 ≠ m + 3 by omega)]
    have e1 : up1 (up1 I (m + 3) (upz (I (m + 3)) r d)) (m + 4) (wr (I (m + 4)) (41 * r) i (fun i => fC (I (m + 1)) f i)) (m + 3) r = d := by
      rw [up1_n _ _ (by omega), up1_s, upz_s]
    have e2 : up1 (up1 I (m + 3) (upz (I (m + 3)) r d)) (m + 4) (wr (I (m + 4)) (41 * r) i (fun i => fC (I (m + 1)) f i)) (m + 1) = I (m + 1) := by
      rw [up1_n _ _ (by omega), up1_n _ _ (by omega)]
    simp (disch := omega) only [bsome, t_ck T, t_gI T, t_pI T, t_gJ T, t_pJ T, tR_deg T, tA_deg T, tU_deg T, e1, w32_id, if_neg, t_numberOf T hf.1 hf.2, e2, t_put T, up1_up1, up1_s, Int.zero_add]
  · unfold s_X11_takes_l13_st
    dsimp only
    have e1 : up1 (up1 I (m + 3) (upz (I (m + 3)) r d)) (m + 4) (wr (up1 I (m + 3) (upz (I (m + 3)) r d) (m + 4)) (41 * r) (d + 1).toNat (fun i => fC (I (m + 1)) f i)) (m + 3) r = d := by
      rw [up1_n _ _ (by omega), up1_s, upz_s]
    simp (disch := omega) only [bsome, t_ck T, t_gI T, t_pI T, t_gJ T, t_pJ T, tR_deg T, tA_deg T, tU_deg T, e1, w32_id, if_pos]
/-- the table that is worked with -/
def tkT (I : Nat → Int → Int) (m : Nat) (a b c d : Int) : Nat → Int → Int := up1 I m (upz (upz (upz (upz (I m) 6 a) 7 b) 8 c) 9 d)
theorem t_takesTable (T : TL sh m) (a b c d : Int) : s_X11_takesTable m a b c d (sh, I, J) = some (sh, tkT I m a b c d, J) := by
  unfold s_X11_takesTable
  simp only [t_pI T, bsome, up1_up1, up1_s]
  rfl
theorem tkT_n {a b c d : Int} {q : Nat} (h : q ≠ m) : tkT I m a b c d q = I q := up1_n _ _ h
theorem tkT_k {a b c d k : Int} (h : k ≠ 6 ∧ k ≠ 7 ∧ k ≠ 8 ∧ k ≠ 9) : tkT I m a b c d m k = I m k := by
  unfold tkT
  rw [up1_s, upz_n _ _ (by omega), upz_n _ _ (by omega), upz_n _ _ (by omega), upz_n _ _ (by omega)]
theorem tkT_6 {a b c d : Int} : tkT I m a b c d m 6 = a ∧ tkT I m a b c d m 7 = b ∧ tkT I m a b c d m 8 = c ∧ tkT I m a b c d m 9 = d := by
  unfold tkT
  rw [up1_s]
  refine ⟨?_, ?_, ?_, upz_s _ _ _⟩
  · rw [upz_n _ _ (by decide), upz_n _ _ (by decide), upz_n _ _ (by decide), upz_s]
  · rw [upz_n _ _ (by decide), upz_n _ _ (by decide), upz_s]
  · rw [upz_n _ _ (by decide), upz_s]
theorem tkT_hk {a b c d : Int} : HK m I (tkT I m a b c d) := ⟨fun q h _ => tkT_n h, fun k hk => tkT_k (by omega)⟩
theorem tkT_tb {a b c d : Int} (hT : wT p a b c d) : TB (tkT I m a b c d) m p a b c d := by
  obtain ⟨h1, h2, h3, h4⟩ := tkT_6 (I := I) (m := m) (a := a) (b := b) (c := c) (d := d)
  obtain ⟨g1, g2, g3, g4, -⟩ := hT
  exact ⟨by rw [h1, emod_id p g1], by rw [h2, emod_id p g2], by rw [h3, emod_id p g3], by rw [h4, emod_id p g4]⟩
theorem t_tables (T : TL sh m) {t : Int} (h0 : 0 ≤ t) (h1 : t < 8) : s_X11_tables m t (sh, I, J) = some (sh, tkT I m (tT (I (m + 1)) t 0) (tT (I (m + 1)) t 1) (tT (I (m + 1)) t 2) (tT (I (m + 1)) t 3), J) := by
  unfold s_X11_tables
  simp (disch := omega) only [t_ck T, bsome, t_ofTable T h0 h1, t_takesTable T]
theorem t_detNow (T : TL sh m) (hI : I (m + 1) 0 = p) (hp : Pp p) {a b c d : Int} (hT : TB I m p a b c d) : s_X11_detNow m (sh, I, J) = some (dtP a b c d % p, (sh, I, J)) := by
  unfold s_X11_detNow
  simp only [t_ck T, t_gI T, bsome, hT.1, hT.2.1, hT.2.2.1, hT.2.2.2, t_timesM T hI hp, t_lessM T hI hp]
  rfl
/-- the inverse table -/
def ivT (p a b c d : Int) : Int × Int × Int × Int := (d * ivS p (dtP a b c d % p) % p, (0 - b) * ivS p (dtP a b c d % p) % p, (0 - c) * ivS p (dtP a b c d % p) % p, a * ivS p (dtP a b c d % p) % p)
theorem ivS_m {p : Int} (a : Int) : ivS p a % p = ivS p a := emod_emod_ _ _
theorem t_less0 (T : TL sh m) (hI : I (m + 1) 0 = p) (hp : Pp p) (b : Int) : s_X11_less m 0 (b % p) (sh, I, J) = some ((0 - b) % p, (sh, I, J)) := by
  have h := t_lessM (J := J) T hI hp 0 b
  rwa [Int.zero_emod] at h
theorem t_turnsBack (T : TL sh m) (hI : I (m + 1) 0 = p) (hp : Pp p) {a b c d : Int} (hT : TB I m p a b c d) : s_X11_turnsBack m (sh, I, J) = some (sh, tkT I m (ivT p a b c d).1 (ivT p a b c d).2.1 (ivT p a b c d).2.2.1 (ivT p a b c d).2.2.2, J) := by
  have h1 := fun x => t_timesM (J := J) T hI hp x (ivS p (dtP a b c d % p))
  rw [ivS_m] at h1
  unfold s_X11_turnsBack
  simp only [t_ck T, t_gI T, bsome, t_detNow T hI hp hT, t_inverse T hI hp (emod_b hp _), hT.1, hT.2.1, hT.2.2.1, hT.2.2.2, t_less0 T hI hp, h1, t_takesTable T]
  rfl
end TW
