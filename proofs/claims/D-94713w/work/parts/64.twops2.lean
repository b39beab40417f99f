/-! the twin: mixing, undoing, the image -/
set_option maxRecDepth 100000
def mixF (W : Int → Int) (f a b c d : Int) : Int → Int := wr W (7 + 10 * f) (fD W f + 1).toNat (fun i => mixP (fD W f).toNat a b c d (fC W f) i % W 0)
def shA (W : Int → Int) : Int → Int := wr W 3406 195 (fun i => W (3406 + i + 5))
def psh1 (W : Int → Int) : Int → Int := if W 4 = 40 then shA W else upz W 4 (W 4 + 1)
/-- a mixing is written down -/
def pshA (W : Int → Int) (f t : Int) : Int → Int := upz (wr (upz (psh1 W) (3406 + 5 * (psh1 W 4 - 1)) f) (3406 + 5 * (psh1 W 4 - 1) + 1) 4 (fun i => tT W t i)) 5 0
theorem RW.wld {I : Nat → Int → Int} {m : Nat} {p r d : Int} {c W : Int → Int} (h : RW I m p r d c) : RW (up1 I (m + 1) W) m p r d c := by
  unfold RW
  rw [up1_n _ _ (by omega), up1_n _ _ (by omega)]
  exact h
/-- 1 if nothing but zeros -/
def nzI (p : Int) (c : Int → Int) : Nat → Int
  | 0 => 1
  | n + 1 => if c n % p = 0 then nzI p c n else 0
theorem nzI_iff (p : Int) (c : Int → Int) : ∀ n : Nat, (nzI p c n = 0 ∨ nzI p c n = 1) ∧ (nzI p c n = 1 ↔ ∀ k : Int, 0 ≤ k → k < n → c k % p = 0)
  | 0 => ⟨Or.inr rfl, ⟨fun _ k a b => by omega, fun _ => rfl⟩⟩
  | n + 1 => by
    obtain ⟨h1, h2⟩ := nzI_iff p c n
    unfold nzI
    by_cases h : c n % p = 0
    · rw [if_pos h]
      refine ⟨h1, h2.trans ⟨fun g k a b => ?_, fun g k a b => g k a (by omega)⟩⟩
      by_cases e : k = n
      · rw [e, h]
      · exact g k a (by omega)
    · rw [if_neg h]
      exact ⟨Or.inl rfl, ⟨fun e => absurd e (by decide), fun g => absurd (g n (by omega) (by omega)) h⟩⟩
theorem nzI_nz {p d : Int} {c : Int → Int} (hd : -1 ≤ d) : nzI p c (d + 1).toNat = 1 ↔ nz p d c := by
  rw [(nzI_iff p c _).2]
  exact ⟨fun h k a b => h k a (by omega), fun h k a b => h k a (by omega)⟩
theorem nzI_of {p d v : Int} {c : Int → Int} (hd : -1 ≤ d) (h1 : v = 0 ∨ v = 1) (h2 : v = 1 ↔ nz p d c) : v = nzI p c (d + 1).toNat := by
  have h3 := (nzI_iff p c (d + 1).toNat).1
  have h4 := nzI_nz (p := p) (c := c) hd
  by_cases h : nz p d c
  · rw [h2.mpr h, h4.mpr h]
  · have g1 : v ≠ 1 := fun e => h (h2.mp e)
    have g2 : nzI p c (d + 1).toNat ≠ 1 := fun e => h (h4.mp e)
    clear h2 h4
    omega
/-- 1 if two rows are alike -/
def lkI (p d : Int) (x : Int → Int) (e : Int) (y : Int → Int) : Int := if d = e then nzI p (fun k => x k - y k) (d + 1).toNat else 0
theorem sub_mod0 {p a b : Int} : (a - b) % p = 0 ↔ a % p = b % p := by
  constructor
  · intro h
    have h1 : a = b + (a - b) := by omega
    rw [h1, Int.add_emod, h, Int.add_zero, emod_emod_]
  · intro h
    rw [Int.sub_emod, h, Int.sub_self, Int.zero_emod]
theorem lkI_iff {p d e : Int} {x y : Int → Int} (hd : -1 ≤ d) : (lkI p d x e y = 0 ∨ lkI p d x e y = 1) ∧ (lkI p d x e y = 1 ↔ d = e ∧ ∀ k : Int, 0 ≤ k → k ≤ d → x k % p = y k % p) := by
  unfold lkI
  by_cases h : d = e
  · rw [if_pos h]
    refine ⟨(nzI_iff _ _ _).1, (nzI_nz hd).trans ⟨fun g => ⟨h, fun k a b => sub_mod0.mp (g k a b)⟩, fun g k a b => sub_mod0.mpr (g.2 k a b)⟩⟩
  · rw [if_neg h]
    exact ⟨Or.inl rfl, ⟨fun e => absurd e (by decide), fun g => absurd g.1 h⟩⟩
section TX
variable {sh : Sh} {I J : Nat → Int → Int} {m : Nat} {p : Int}
theorem t_isN (T : TL sh m) (hp : Pp p) {r d : Int} {c : Int → Int} (hr : 0 ≤ r ∧ r < 48) (hd : -1 ≤ d ∧ d ≤ 40) (hc : RW I m p r d c) : s_X11_isNought m r (sh, I, J) = some (nzI p c (d + 1).toNat, (sh, I, J)) := by
  obtain ⟨v, h1, h2, h3⟩ := t_isNought (J := J) T hp hr hd hc
  rw [h1, nzI_of hd.1 h2 h3]
theorem t_isL (T : TL sh m) (hp : Pp p) {r q d d2 : Int} {c c2 : Int → Int} (hr : 0 ≤ r ∧ r < 48) (hq : 0 ≤ q ∧ q < 48) (hd : -1 ≤ d ∧ d ≤ 40) (hd2 : -1 ≤ d2 ∧ d2 ≤ 40) (hc : RW I m p r d c) (hc2 : RW I m p q d2 c2) :
    s_X11_isLike m r q (sh, I, J) = some (lkI p d c d2 c2, (sh, I, J)) := by
  obtain ⟨v, h1, h2, h3⟩ := t_isLike (J := J) T hp hr hq hd hd2 hc hc2
  obtain ⟨g1, g2⟩ := lkI_iff (p := p) (d := d) (x := c) (e := d2) (y := c2) hd.1
  have e : v = lkI p d c d2 c2 := by
    rcases h2 with h | h
    · rcases g1 with g | g
      · rw [h, g]
      · rw [h] at h3
        exact absurd (h3.mpr (g2.mp g)) (by decide)
    · rw [h, g2.mpr (h3.mp h)]
  rw [h1, e]
theorem t_mixesForm (T : TL sh m) (hI : I (m + 1) 0 = p) (hp : Pp p) {f a b c d : Int} (hf : 0 ≤ f ∧ f < 16) (hF : wF (I (m + 1)) f) (hT : TB I m p a b c d) :
    ∃ I', s_X11_mixesForm m f (sh, I, J) = some (1 - lkI p (fD (I (m + 1)) f) (fC (I (m + 1)) f) (fD (I (m + 1)) f) (mixP (fD (I (m + 1)) f).toNat a b c d (fC (I (m + 1)) f)), (sh, I', J)) ∧ HK m (up1 I (m + 1) (mixF (I (m + 1)) f a b c d)) I' := by
  have hF1 := hF.1
  obtain ⟨I1, e1, r1, f1⟩ := t_takes (J := J) T hI (r := 40) (by omega) hf hF
  obtain ⟨W, hw⟩ : ∃ W, I (m + 1) = W := ⟨_, rfl⟩
  rw [hw] at r1 hF1 ⊢
  obtain ⟨n, hn⟩ : ∃ n : Nat, fD W f = n := ⟨(fD W f).toNat, by omega⟩
  obtain ⟨x, hx⟩ : ∃ x, fC W f = x := ⟨_, rfl⟩
  unfold mixF
  rw [hn, hx] at r1 ⊢
  rw [hn] at hF1
  rw [Int.toNat_natCast, show ((n : Int) + 1).toNat = n + 1 by omega]
  obtain ⟨I2, e2, r2, f2⟩ := t_mixes (J := J) (f := 40) (to := 41) T (f1.pw hI) hp (by omega) (by omega) (show n ≤ 40 by omega) (hT.keep f1) r1
  have hw2 : I2 (m + 1) = W := by rw [f2.w, f1.w, hw]
  have r1' := r1.keep f2 (by omega) (by omega) (by omega) (by omega)
  unfold s_X11_mixesForm
  simp (disch := omega) only [t_ck T, bsome, e1, e2]
  unfold s_X11_mixesForm_l17
  have hp0 : W 0 = p := by rw [← hw, hI]
  have h := arr_loop (f := fun s : Int × Me => s_X11_mixesForm_l17_st m f s.1 s.2) (sh := sh) (I := I2) (J := J) (m + 1) (7 + 10 * f) 0 (n + 1) (fun i => mixP n a b c d x i % W 0)
    (r := (1 - lkI p n x n (mixP n a b c d x), (sh, up1 I2 (m + 1) (wr (I2 (m + 1)) (7 + 10 * f) (n + 1) (fun i => mixP n a b c d x i % W 0)), J))) ?_ ?_
  · rw [h, hw2]
    exact ⟨_, rfl, (f1.hk.trans f2.hk).up _⟩
  · intro i hi
    have b1 := r2.2 i (by omega) (by omega)
    obtain ⟨I3, hI3⟩ : ∃ I3, up1 I2 (m + 1) (wr (I2 (m + 1)) (7 + 10 * f) i (fun i => mixP n a b c d x i % W 0)) = I3 := ⟨_, rfl⟩
    have r3 : RW I3 m p 41 n (mixP n a b c d x) := by rw [← hI3]; exact r2.wld
    have b3 := r3.2 i (by omega) (by omega)
    unfold s_X11_mixesForm_l17_st s_X11_formAt
    dsimp only
    rw [hI3]
    simp (disch := omega) only [bsome, t_ck T, t_gI T, t_pI T, t_gJ T, t_pJ T, tR_world T, tA_world T, tU_world T, tR_deg T, tA_deg T, tU_deg T, r3.1, w32_id, if_neg, t_of T, Int.zero_add, b3]
    rw [← hI3, up1_up1, up1_s, show 6 + 10 * f + 1 + (i : Int) = 7 + 10 * f + i by omega, hp0]
  · obtain ⟨I3, hI3⟩ : ∃ I3, up1 I2 (m + 1) (wr (I2 (m + 1)) (7 + 10 * f) (n + 1) (fun i => mixP n a b c d x i % W 0)) = I3 := ⟨_, rfl⟩
    have r3 : RW I3 m p 41 n (mixP n a b c d x) := by rw [← hI3]; exact r2.wld
    have r4 : RW I3 m p 40 n x := by rw [← hI3]; exact r1'.wld
    have e3 := t_isL (J := J) T hp (r := 40) (q := 41) (by omega) (by omega) (by omega) (by omega) r4 r3
    have hv := (lkI_iff (p := p) (d := n) (x := x) (e := n) (y := mixP n a b c d x) (by omega)).1
    unfold s_X11_mixesForm_l17_st s_X11_mixesForm_b54
    dsimp only
    rw [hI3]
    simp (disch := omega) only [bsome, t_ck T, t_gI T, t_pI T, t_gJ T, t_pJ T, tR_deg T, tA_deg T, tU_deg T, r3.1, w32_id, if_pos, e3]
    rcases hv with hv | hv
    · rw [hv]; rfl
    · rw [hv]; rfl
theorem psh1_4 (W : Int → Int) : psh1 W 4 = if W 4 = 40 then 40 else W 4 + 1 := by
  unfold psh1
  by_cases h : W 4 = 40
  · rw [if_pos h, if_pos h]
    unfold shA
    rw [wr_out (by omega), h]
  · rw [if_neg h, if_neg h, upz_s]
theorem psh1_o (W : Int → Int) {k : Int} (h : k ≠ 4) (h2 : k < 3406) : psh1 W k = W k := by
  unfold psh1
  by_cases h9 : W 4 = 40
  · rw [if_pos h9]
    unfold shA
    rw [wr_out (by omega)]
  · rw [if_neg h9, upz_n _ _ h]
theorem pshA_o (W : Int → Int) {f t k : Int} (hc : 0 ≤ W 4 ∧ W 4 ≤ 40) (h : k ≠ 4) (h5 : k ≠ 5) (h2 : k < 3406) : pshA W f t k = W k := by
  have h4 := psh1_4 W
  unfold pshA
  rw [upz_n _ _ h5, wr_out (by split at h4 <;> omega), upz_n _ _ (by split at h4 <;> omega), psh1_o W h h2]
theorem pshA_5 (W : Int → Int) {f t : Int} : pshA W f t 5 = 0 := upz_s _ _ _
theorem t_mix93 (T : TL sh m) {f t v : Int} {I' : Nat → Int → Int} {W2 : Int → Int} (g : Nat → Int) (hg : ∀ i : Nat, i < 4 → tT (I (m + 1)) t i = g i) (ht : 0 ≤ t ∧ t < 8) (hc : 1 ≤ I (m + 1) 4 ∧ I (m + 1) 4 ≤ 40) (hv : v = 0 ∨ v = 1)
    (hW2 : upz (wr (upz (I (m + 1)) (3406 + 5 * (I (m + 1) 4 - 1)) f) (3406 + 5 * (I (m + 1) 4 - 1) + 1) 4 g) 5 0 = W2)
    (hm : s_X11_mixesForm m f (sh, tkT (up1 I (m + 1) W2) m (g 0) (g 1) (g 2) (g 3), J) = some (v, (sh, I', J))) : s_X11_mix_b93 m f t (sh, I, J) = some (v, (sh, I', J)) := by
  unfold s_X11_mix_b93
  obtain ⟨e, he⟩ : ∃ e, 3406 + 5 * (I (m + 1) 4 - 1) = e := ⟨_, rfl⟩
  rw [he] at hW2
  simp (disch := omega) only [bsome, t_ck T, t_gI T, t_pI T, t_gJ T, t_pJ T, tR_world T, tA_world T, tU_world T, he]
  unfold s_X11_mix_l118
  have ho : ∀ (i : Int) (n : Nat), 0 ≤ i → i < 4 → n ≤ 4 → tT (wr (upz (I (m + 1)) e f) (e + 1) n g) t i = tT (I (m + 1)) t i := by
    intro i n h0 h1 h2
    unfold tT
    rw [wr_out (by omega), upz_n _ _ (by omega)]
  have h := arr_loop (f := fun s : Int × Me => s_X11_mix_l118_st m f t e s.1 s.2) (sh := sh) (I := up1 I (m + 1) (upz (I (m + 1)) e f)) (J := J) (m + 1) (e + 1) 0 4 g (r := (v, (sh, I', J))) ?_ ?_
  · exact h
  · intro i hi
    have hgi := hg i hi
    unfold s_X11_mix_l118_st
    dsimp only
    rw [up1_up1, up1_s]
    simp (disch := omega) only [bsome, t_ck T, t_gI T, t_pI T, t_gJ T, t_pJ T, tR_world T, tA_world T, tU_world T, w32_id, if_neg, t_ofTable T, Int.zero_add, up1_s, up1_up1, ho, hgi]
  · unfold s_X11_mix_l118_st s_X11_mix_b148
    dsimp only
    rw [up1_up1, up1_s]
    simp (disch := omega) only [bsome, t_ck T, t_gI T, t_pI T, t_gJ T, t_pJ T, tR_world T, tA_world T, tU_world T, w32_id, if_pos, up1_s, up1_up1, hW2]
    have hw : ∀ i, 0 ≤ i → i < 4 → tT W2 t i = tT (I (m + 1)) t i := by
      intro i h0 h1
      rw [← hW2]
      have := ho i 4 h0 h1 (by omega)
      unfold tT at this ⊢
      rw [upz_n _ _ (by omega), this]
    have e2 := t_tables (I := up1 I (m + 1) W2) (J := J) T ht.1 ht.2
    have g0 : tT (I (m + 1)) t 0 = g 0 := hg 0 (by omega)
    have g1 : tT (I (m + 1)) t 1 = g 1 := hg 1 (by omega)
    have g2 : tT (I (m + 1)) t 2 = g 2 := hg 2 (by omega)
    have g3 : tT (I (m + 1)) t 3 = g 3 := hg 3 (by omega)
    rw [up1_s, hw 0 (by omega) (by omega), hw 1 (by omega) (by omega), hw 2 (by omega) (by omega), hw 3 (by omega) (by omega), g0, g1, g2, g3] at e2
    simp (disch := omega) only [t_ck T, bsome, e2, hm, bz2_m hv]
    rfl
theorem t_mix (T : TL sh m) (hW : WI (I (m + 1))) {f t : Int} (hf : i32 f) (ht : i32 t) :
    ((0 ≤ f ∧ f < I (m + 1) 1) → (0 ≤ t ∧ t < I (m + 1) 2) → QW (s_X11_mix m f t (sh, I, J)) sh I J m
      (1 - lkI (I (m + 1) 0) (fD (I (m + 1)) f) (fC (I (m + 1)) f) (fD (I (m + 1)) f) (mixP (fD (I (m + 1)) f).toNat (tT (I (m + 1)) t 0) (tT (I (m + 1)) t 1) (tT (I (m + 1)) t 2) (tT (I (m + 1)) t 3) (fC (I (m + 1)) f)))
      (mixF (pshA (I (m + 1)) f t) f (tT (I (m + 1)) t 0) (tT (I (m + 1)) t 1) (tT (I (m + 1)) t 2) (tT (I (m + 1)) t 3))) ∧
    (¬((0 ≤ f ∧ f < I (m + 1) 1) ∧ (0 ≤ t ∧ t < I (m + 1) 2)) → QB (s_X11_mix m f t (sh, I, J)) sh I J m 1) := by
  obtain ⟨W, hw⟩ : ∃ W, I (m + 1) = W := ⟨_, rfl⟩
  rw [hw] at hW ⊢
  have hp := hW.pp
  have hc1 := hW.c1
  have hc2 := hW.c2
  have hc4 := hW.c4
  have h0 : thr I m 0 (m + 1) = W := by rw [thr_n (by omega), hw]
  have e1 := t_noF (I := thr I m 0) (J := J) T (by rw [h0]; exact hc1) hf
  have e1' := t_noT (I := thr I m 0) (J := J) T (by rw [h0]; exact hc2) ht
  rw [h0] at e1 e1'
  refine ⟨fun h g => ?_, fun h => ?_⟩
  · rw [if_pos h] at e1
    rw [if_pos g] at e1'
    have hT := hW.t g.1 g.2
    have ho := fun k => pshA_o W (f := f) (t := t) (k := k) (by omega)
    obtain ⟨W3, hW3⟩ : ∃ W3, pshA W f t = W3 := ⟨_, rfl⟩
    rw [hW3] at ho ⊢
    have g0 : W3 0 = W 0 := ho 0 (by decide) (by decide) (by decide)
    have gD : fD W3 f = fD W f := ho _ (by omega) (by omega) (by omega)
    have hF9 := hW.f h.1 h.2
    have gC : ∀ k : Int, 0 ≤ k → k ≤ fD W f → fC W3 f k = fC W f k := fun k a b => ho _ (by omega) (by omega) (by have := hF9.1; omega)
    have hF3 : wF W3 f := by
      unfold wF
      rw [gD, g0]
      exact ⟨hF9.1, fun k a b => by rw [gC k a b]; exact hF9.2 k a b⟩
    have hk : HK m (up1 (thr I m 0) (m + 1) W3) (tkT (up1 (thr I m 0) (m + 1) W3) m (tT W t 0) (tT W t 1) (tT W t 2) (tT W t 3)) := tkT_hk
    obtain ⟨I3, hI3⟩ : ∃ I3, tkT (up1 (thr I m 0) (m + 1) W3) m (tT W t 0) (tT W t 1) (tT W t 2) (tT W t 3) = I3 := ⟨_, rfl⟩
    have hTB := tkT_tb (I := up1 (thr I m 0) (m + 1) W3) (m := m) hT
    rw [hI3] at hk hTB
    have hw3 : I3 (m + 1) = W3 := by rw [hk.w, up1_s]
    obtain ⟨I4, e4, k4⟩ := t_mixesForm (J := J) T (p := W 0) (by rw [hw3, g0]) hp (show 0 ≤ f ∧ f < 16 by omega) (by rw [hw3]; exact hF3) hTB
    rw [hw3, gD] at e4
    rw [hw3] at k4
    have elk : lkI (W 0) (fD W f) (fC W3 f) (fD W f) (mixP (fD W f).toNat (tT W t 0) (tT W t 1) (tT W t 2) (tT W t 3) (fC W3 f)) = lkI (W 0) (fD W f) (fC W f) (fD W f) (mixP (fD W f).toNat (tT W t 0) (tT W t 1) (tT W t 2) (tT W t 3) (fC W f)) := by
      have d0 : -1 ≤ fD W f := by have := hF9.1; omega
      obtain ⟨x1, x2⟩ := lkI_iff (p := W 0) (d := fD W f) (x := fC W3 f) (e := fD W f) (y := mixP (fD W f).toNat (tT W t 0) (tT W t 1) (tT W t 2) (tT W t 3) (fC W3 f)) d0
      obtain ⟨y1, y2⟩ := lkI_iff (p := W 0) (d := fD W f) (x := fC W f) (e := fD W f) (y := mixP (fD W f).toNat (tT W t 0) (tT W t 1) (tT W t 2) (tT W t 3) (fC W f)) d0
      have hmm := eqm_mixP (p := W 0) (n := (fD W f).toNat) (a := tT W t 0) (b := tT W t 1) (c := tT W t 2) (d := tT W t 3) (x := fC W3 f) (y := fC W f) (fun k a b => by rw [gC k a (by have := hF9.1; omega)]) rfl rfl rfl rfl
      have hx : (fD W f = fD W f ∧ ∀ k : Int, 0 ≤ k → k ≤ fD W f → fC W3 f k % W 0 = mixP (fD W f).toNat (tT W t 0) (tT W t 1) (tT W t 2) (tT W t 3) (fC W3 f) k % W 0) ↔ (fD W f = fD W f ∧ ∀ k : Int, 0 ≤ k → k ≤ fD W f → fC W f k % W 0 = mixP (fD W f).toNat (tT W t 0) (tT W t 1) (tT W t 2) (tT W t 3) (fC W f) k % W 0) :=
        ⟨fun q => ⟨rfl, fun k a b => by rw [← gC k a b, ← hmm k]; exact q.2 k a b⟩, fun q => ⟨rfl, fun k a b => by rw [gC k a b, hmm k]; exact q.2 k a b⟩⟩
      have h9 := x2.trans (hx.trans y2.symm)
      rcases x1 with x1 | x1
      · rcases y1 with y1 | y1
        · rw [x1, y1]
        · exact absurd (h9.mpr y1) (by rw [x1]; decide)
      · rw [x1, h9.mp x1]
    rw [elk] at e4
    obtain ⟨v, hv⟩ : ∃ v, 1 - lkI (W 0) (fD W f) (fC W f) (fD W f) (mixP (fD W f).toNat (tT W t 0) (tT W t 1) (tT W t 2) (tT W t 3) (fC W f)) = v := ⟨_, rfl⟩
    rw [hv] at e4 ⊢
    have hv01 : v = 0 ∨ v = 1 := by
      have := (lkI_iff (p := W 0) (d := fD W f) (x := fC W f) (e := fD W f) (y := mixP (fD W f).toNat (tT W t 0) (tT W t 1) (tT W t 2) (tT W t 3) (fC W f)) (by have := hF9.1; omega)).1
      omega
    have fin : QW (some (v, ((sh, I4, J) : Me))) sh I J m v (mixF W3 f (tT W t 0) (tT W t 1) (tT W t 2) (tT W t 3)) := by
      refine ⟨_, _, rfl, ?_, HJ.refl⟩
      have := hk.up (mixF W3 f (tT W t 0) (tT W t 1) (tT W t 2) (tT W t 3))
      rw [up1_up1] at this
      exact this.trans k4
    have k93 : ∀ I1 : Nat → Int → Int, I1 = up1 (thr I m 0) (m + 1) (psh1 W) → s_X11_mix_b93 m f t (sh, I1, J) = some (v, (sh, I4, J)) := by
      rintro I1 rfl
      have e4' := psh1_4 W
      refine t_mix93 T (fun i => tT W t i) (fun i hi => ?_) (by omega) (by rw [up1_s, e4']; split <;> omega) hv01 (W2 := W3) ?_ ?_
      · rw [up1_s]
        exact psh1_o W (by omega) (by omega)
      · rw [up1_s]
        exact hW3
      · rw [up1_up1]
        have e9 := e4
        rw [← hI3] at e9
        exact e9
    unfold s_X11_mix
    simp (disch := omega) only [t_thr T, bsome, t_ck T, e1, e1', w32_id, if_pos]
    unfold s_X11_mix_b27
    simp (disch := omega) only [bsome, t_ck T, t_gI T, t_pI T, t_gJ T, t_pJ T, tR_world T, tA_world T, tU_world T, t_if0, w32_id, if_pos, h0]
    by_cases h40 : W 4 = 40
    · rw [if_pos h40]
      unfold s_X11_mix_l51
      have hs := arr_loop (f := fun s : Int × Me => s_X11_mix_l51_st m f t s.1 s.2) (sh := sh) (I := thr I m 0) (J := J) (m + 1) 3406 3406 195 (fun i => W (3406 + i + 5)) (r := (v, (sh, I4, J))) ?_ ?_
      · rw [hs]
        exact fin
      · intro i hi
        unfold s_X11_mix_l51_st
        dsimp only
        rw [h0]
        simp (disch := omega) only [bsome, t_ck T, t_gI T, t_pI T, t_gJ T, t_pJ T, tR_world T, tA_world T, tU_world T, w32_id, if_neg, up1_s, up1_up1, wr_out]
      · unfold s_X11_mix_l51_st s_X11_mix_b80
        dsimp only
        simp (disch := omega) only [w32_id, if_pos]
        rw [k93 _ (by rw [h0]; unfold psh1 shA; rw [if_pos h40])]
        rfl
    · rw [if_neg h40, k93 _ (by unfold psh1; rw [if_neg h40])]
      exact fin
  · have key : s_X11_mix m f t (sh, I, J) = s_X11_mix_b22 m f t m (sh, thr I m 0, J) := by
      unfold s_X11_mix
      simp (disch := omega) only [t_thr T, bsome, t_ck T, e1, e1']
      by_cases h1 : 0 ≤ f ∧ f < W 1
      · rw [if_pos h1, if_neg (fun h2 => h ⟨h1, h2⟩)]
        simp (disch := omega) only [w32_id, if_pos, if_neg]
        all_goals rfl
      · rw [if_neg h1]
        simp (disch := omega) only [w32_id, if_neg]
    rw [key]
    unfold s_X11_mix_b22 s_X11_mix_b27
    simp (disch := omega) only [t_ck T, bsome, t_if1 T, w32_id, if_neg, thr_thr]
    exact ⟨_, _, _, rfl, HK.refl, HJ.refl⟩
end TX
