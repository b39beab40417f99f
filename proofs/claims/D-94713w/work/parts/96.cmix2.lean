/-! the component: mix, undo, redo -/
set_option maxRecDepth 100000
theorem mixF_o (V : Int → Int) {f a b c d k : Int} (h : k < 7 + 10 * f ∨ 7 + 10 * f + (fD V f + 1).toNat ≤ k) : mixF V f a b c d k = V k := wr_out h
theorem mixF_f (V : Int → Int) {f a b c d : Int} : ∀ k : Int, 0 ≤ k → k ≤ fD V f → fC (mixF V f a b c d) f k = mixP (fD V f).toNat a b c d (fC V f) k % V 0 := fun k u v => by
  show wr V (7 + 10 * f) (fD V f + 1).toNat (fun i => mixP (fD V f).toNat a b c d (fC V f) i % V 0) (7 + 10 * f + k) = _
  rw [wr_in (by omega) (by omega), show 7 + 10 * f + k - (7 + 10 * f) = k by omega, Int.toNat_of_nonneg u]
theorem WI.mixF {V : Int → Int} (h : WI V) {f a b c d : Int} (h0 : 0 ≤ f) (h1 : f < V 1) : WI (mixF V f a b c d) := by
  have c1 := h.c1
  have d8 := (h.f h0 h1).1
  have o := fun k hk => mixF_o V (f := f) (a := a) (b := b) (c := c) (d := d) (k := k) hk
  have lo : ∀ k, k < 6 → Jvm.Pilot.CLetterFormsLaw_law_r4541_621673.mixF V f a b c d k = V k := fun k hk => o k (by omega)
  refine WI.mk (by rw [lo 0 (by omega)]; exact h.pp) (by rw [lo 1 (by omega)]; exact c1) (by rw [lo 2 (by omega)]; exact h.c2) (by rw [lo 3 (by omega)]; exact h.c3) (by rw [lo 4 (by omega), lo 5 (by omega)]; exact h.c4) (fun g u v => ?_) (h.wT_ext (lo 0 (by omega)) (lo 2 (by omega)) (fun j u v => o j (by omega))) (h.wA_ext (lo 0 (by omega)) (by rw [lo 1 (by omega)]; omega) (by rw [lo 4 (by omega), lo 5 (by omega)]; omega) (fun j u v => o j (by omega)))
  rw [lo 1 (by omega)] at v
  by_cases e : g = f
  · rw [e]
    have ed : fD (Jvm.Pilot.CLetterFormsLaw_law_r4541_621673.mixF V f a b c d) f = fD V f := o _ (by omega)
    refine ⟨by rw [ed]; exact d8, fun k u2 v2 => ?_⟩
    rw [ed] at v2
    rw [mixF_f V k u2 v2, lo 0 (by omega)]
    exact emod_b h.pp _
  · exact (h.f u v).ext u (lo 0 (by omega)) (fun j a b => o j (by omega))
/-- what the world says behind a mixing's note -/
theorem pshA_4 (W : Int → Int) {f t : Int} (hc : 0 ≤ W 4 ∧ W 4 ≤ 40) : pshA W f t 4 = if W 4 = 40 then 40 else W 4 + 1 := by
  have h4 := psh1_4 W
  unfold pshA
  rw [upz_n _ _ (by decide), wr_out (by split at h4 <;> omega), upz_n _ _ (by split at h4 <;> omega), h4]
theorem pshA_new (W : Int → Int) {f t : Int} (hc : 0 ≤ W 4 ∧ W 4 ≤ 40) {c : Int} (h : c = if W 4 = 40 then 39 else W 4) : aA (pshA W f t) c 0 = f ∧ ∀ i : Int, 0 ≤ i → i < 4 → aA (pshA W f t) c (1 + i) = tT W t i := by
  have h4 := psh1_4 W
  have e4 : psh1 W 4 - 1 = c := by rw [h4, h]; split <;> omega
  have cb : 0 ≤ c := by rw [h]; split <;> omega
  unfold aA pshA
  rw [e4]
  refine ⟨?_, fun i u v => ?_⟩
  · rw [upz_n _ _ (by omega), wr_out (by omega), Int.add_zero, upz_s]
  · rw [upz_n _ _ (by omega), wr_in (by omega) (by omega), show 3406 + 5 * c + (1 + i) - (3406 + 5 * c + 1) = i by omega, Int.toNat_of_nonneg u]
theorem pshA_old (W : Int → Int) {f t : Int} (hc : 0 ≤ W 4 ∧ W 4 ≤ 40) {c k i : Int} (h : c = if W 4 = 40 then 39 else W 4) (k0 : 0 ≤ k) (kc : k < c) (i0 : 0 ≤ i) (i1 : i < 5) : aA (pshA W f t) k i = aA W (if W 4 = 40 then k + 1 else k) i := by
  have h4 := psh1_4 W
  have e4 : psh1 W 4 - 1 = c := by rw [h4, h]; split <;> omega
  unfold aA pshA
  rw [e4, upz_n _ _ (by omega), wr_out (by omega), upz_n _ _ (by omega)]
  unfold psh1
  by_cases e : W 4 = 40
  · rw [if_pos e, if_pos e]
    rw [if_pos e] at h
    unfold shA
    rw [wr_in (by omega) (by omega)]
    congr 1
    omega
  · rw [if_neg e, if_neg e, upz_n _ _ (by omega)]
theorem WI.pshA {W : Int → Int} (h : WI W) {f t : Int} (h0 : 0 ≤ f) (h1 : f < W 1) (t0 : 0 ≤ t) (t1 : t < W 2) : WI (pshA W f t) := by
  have c4 := h.c4
  have hc : 0 ≤ W 4 ∧ W 4 ≤ 40 := by omega
  have o := fun k (a : k ≠ 4) (b : k ≠ 5) c => pshA_o W (f := f) (t := t) hc (k := k) a b c
  have e4 := pshA_4 W (f := f) (t := t) hc
  have e5 := pshA_5 W (f := f) (t := t)
  refine WI.mk (by rw [o 0 (by decide) (by decide) (by decide)]; exact h.pp) (by rw [o 1 (by decide) (by decide) (by decide)]; exact h.c1) (by rw [o 2 (by decide) (by decide) (by decide)]; exact h.c2) (by rw [o 3 (by decide) (by decide) (by decide)]; exact h.c3) (by rw [e4, e5]; split <;> omega) (h.wF_ext (o 0 (by decide) (by decide) (by decide)) (o 1 (by decide) (by decide) (by decide)) (fun j u v => o j (by omega) (by omega) (by omega))) (h.wT_ext (o 0 (by decide) (by decide) (by decide)) (o 2 (by decide) (by decide) (by decide)) (fun j u v => o j (by omega) (by omega) (by omega))) (fun a u v => ?_)
  rw [e4, e5] at v
  obtain ⟨c, hcd⟩ : ∃ c : Int, c = if W 4 = 40 then 39 else W 4 := ⟨_, rfl⟩
  have cb : (if W 4 = 40 then (40 : Int) else W 4 + 1) = c + 1 := by rw [hcd]; split <;> omega
  rw [cb] at v
  rw [o 0 (by decide) (by decide) (by decide), o 1 (by decide) (by decide) (by decide)]
  by_cases e : a = c
  · obtain ⟨n0, n1⟩ := pshA_new W (f := f) (t := t) hc hcd
    rw [e, n0, show (1 : Int) = 1 + 0 from rfl, n1 0 (by omega) (by omega), show (1 : Int) + 0 = 1 from rfl, show (2 : Int) = 1 + 1 from rfl, n1 1 (by omega) (by omega), show (3 : Int) = 1 + 2 from rfl, n1 2 (by omega) (by omega), show (4 : Int) = 1 + 3 from rfl, n1 3 (by omega) (by omega)]
    exact ⟨⟨h0, h1⟩, h.t t0 t1⟩
  · have g := fun i (i0 : 0 ≤ i) i1 => pshA_old W (f := f) (t := t) hc hcd (k := a) (i := i) u (by omega) i0 i1
    rw [g 0 (by omega) (by omega), g 1 (by omega) (by omega), g 2 (by omega) (by omega), g 3 (by omega) (by omega), g 4 (by omega) (by omega)]
    refine h.a (by split <;> omega) ?_
    by_cases e9 : W 4 = 40
    · rw [if_pos e9] at hcd ⊢; omega
    · rw [if_neg e9] at hcd ⊢; omega
section CMy
variable {sh sh' : Sh} {I I' J : Nat → Int → Int} {x S : Nat} {p : Int} {W W' : Int → Int}
/-- the state behind a mixing -/
theorem SR.mix (h : SR sh I S W) (hW : WI W) {f t : Int} (h0 : 0 ≤ f) (h1 : f < W 1) (t0 : 0 ≤ t) (t1 : t < W 2) {m : Int → Int} (hm : m = mixP (fD W f).toNat (tT W t 0) (tT W t 1) (tT W t 2) (tT W t 3) (fC W f)) {c : Nat} {g : Int → Option Nat} {π π' : Nat → Nat} (hπ : AP2 sh S π) (hπ' : AP2 (shA2 sh S g) S π') (hc : c = if (W 4).toNat = 40 then 39 else (W 4).toNat) (hk : ∀ k, k < c → π' k = π (if (W 4).toNat = 40 then k + 1 else k)) (b1 : I' (S + 45 + 5 * π' c) 2 = f) (b2 : FM I' (S + 45 + 5 * π' c + 1) (W 0) (fD W f) (fC W f)) (b3 : FM I' (S + 45 + 5 * π' c + 3) (W 0) (fD W f) m) (b4 : I' S = upz (upz (I S) 8 ((c : Int) + 1)) 9 ((c : Int) + 1)) (b5 : FM I' (S + 13 + 2 * f.toNat) (W 0) (fD W f) m)
    (b6 : ∀ b, S < b → b ≤ S + 244 → (b < S + 45 + 5 * π' c ∨ S + 45 + 5 * π' c + 4 < b) → b ≠ S + 13 + 2 * f.toNat → b ≠ S + 13 + 2 * f.toNat + 1 → I' b = I b) (hA : ∀ (n : Nat) (t : Tr n) (q : Nat), SA sh I n t q → SA (shA2 sh S g) I' n t q) :
    SR (shA2 sh S g) I' S (mixF (pshA W f t) f (tT W t 0) (tT W t 1) (tT W t 2) (tT W t 3)) := by
  have c1 := hW.c1
  have c4 := hW.c4
  have c40 : 0 ≤ W 4 ∧ W 4 ≤ 40 := by omega
  obtain ⟨r1, r2, r3, r4, G, r5, r6⟩ := SR_iff.mp h
  obtain ⟨V, hV⟩ : ∃ V, pshA W f t = V := ⟨_, rfl⟩
  have o := fun k (a : k ≠ 4) (b : k ≠ 5) c => pshA_o W (f := f) (t := t) c40 (k := k) a b c
  have e4 := pshA_4 W (f := f) (t := t) c40
  have e5 := pshA_5 W (f := f) (t := t)
  have ci : (c : Int) = if W 4 = 40 then 39 else W 4 := by
    rw [hc]
    by_cases e : W 4 = 40
    · rw [if_pos e, if_pos (by omega)]; rfl
    · rw [if_neg e, if_neg (by omega)]; omega
  have cb : c < 40 := by rw [hc]; split <;> omega
  obtain ⟨nw0, nw1⟩ := pshA_new W (f := f) (t := t) c40 ci
  have old := fun k i (k0 : 0 ≤ k) kc (i0 : 0 ≤ i) i1 => pshA_old W (f := f) (t := t) c40 ci (k := k) (i := i) k0 kc i0 i1
  rw [hV] at o e4 e5 nw0 nw1 old ⊢
  have e40 : V 4 = (c : Int) + 1 := by rw [e4, ci]; split <;> omega
  have edV : fD V f = fD W f := o _ (by omega) (by omega) (by omega)
  have d8 := (hW.f h0 h1).1
  have ecV : ∀ k : Int, 0 ≤ k → k ≤ fD W f → fC V f k = fC W f k := fun k u v => o _ (by omega) (by omega) (by omega)
  have mV : ∀ k : Int, mixP (fD V f).toNat (tT W t 0) (tT W t 1) (tT W t 2) (tT W t 3) (fC V f) k % W 0 = m k % W 0 := fun k => by
    rw [edV, hm]
    exact eqm_mixP (fun k u v => by rw [ecV k u (by omega)]) rfl rfl rfl rfl k
  have V0 : V 0 = W 0 := o 0 (by decide) (by decide) (by decide)
  obtain ⟨X, hX⟩ : ∃ X, Jvm.Pilot.CLetterFormsLaw_law_r4541_621673.mixF V f (tT W t 0) (tT W t 1) (tT W t 2) (tT W t 3) = X := ⟨_, rfl⟩
  have xo := fun k hk => mixF_o V (f := f) (a := tT W t 0) (b := tT W t 1) (c := tT W t 2) (d := tT W t 3) (k := k) hk
  have xf := mixF_f V (f := f) (a := tT W t 0) (b := tT W t 1) (c := tT W t 2) (d := tT W t 3)
  rw [hX] at xo xf ⊢
  rw [edV] at xo xf
  have x0 : X 0 = W 0 := (xo 0 (by omega)).trans V0
  have x1 : X 1 = W 1 := (xo 1 (by omega)).trans (o 1 (by decide) (by decide) (by decide))
  have x2 : X 2 = W 2 := (xo 2 (by omega)).trans (o 2 (by decide) (by decide) (by decide))
  have x3 : X 3 = W 3 := (xo 3 (by omega)).trans (o 3 (by decide) (by decide) (by decide))
  have x4 : X 4 = (c : Int) + 1 := (xo 4 (by omega)).trans e40
  have x5 : X 5 = 0 := (xo 5 (by omega)).trans e5
  have xD : ∀ g, 0 ≤ g → g < 16 → fD X g = fD W g := fun g u v => (xo _ (by omega)).trans (o _ (by omega) (by omega) (by omega))
  have xC : ∀ g k, 0 ≤ g → g < W 1 → g ≠ f → 0 ≤ k → k ≤ fD W g → fC X g k = fC W g k := fun g k u v w y z => by
    have := (hW.f u v).1
    exact (xo _ (by omega)).trans (o _ (by omega) (by omega) (by omega))
  have xCf : ∀ k, 0 ≤ k → k ≤ fD W f → fC X f k % W 0 = m k % W 0 := fun k u v => by
    rw [xf k u v, V0, emod_emod_, ← edV]
    exact mV k
  have hi : ∀ j, 166 ≤ j → j < 3406 → X j = W j := fun j u v => (xo j (by omega)).trans (o j (by omega) (by omega) (by omega))
  have xA : ∀ k i : Int, 0 ≤ k → k < 40 → 0 ≤ i → i < 5 → aA X k i = aA V k i := fun k i u v w z => xo _ (by omega)
  have acts : ∀ a, S + 45 ≤ a → a ≤ S + 244 → (a < S + 45 + 5 * π' c ∨ S + 45 + 5 * π' c + 4 < a) → I' a = I a := fun a u v w => b6 a (by omega) v w (by omega) (by omega)
  have pc := hπ'.1 c cb
  refine SR_iff.mpr ⟨?_, fun g9 hg => ?_, r3.ext hW x2 (fun j u v => hi j u (by omega)) (fun q u v => b6 q (by omega) (by omega) (by omega) (by omega) (by omega)), r4.ext hW x3 (fun j u v => hi j (by omega) v) (up1_n _ _ (by omega)) hA, ⟨fun k f' => if k ≤ c then G (k + ((W 4).toNat - c)) f' else if f' = f.toNat then mixP (fD W f).toNat (tT W t 0) (tT W t 1) (tT W t 2) (tT W t 3) (G (W 4).toNat f.toNat) else G (W 4).toNat f', fun g9 hg j u v => ?_, fun k hkk => ?_⟩⟩
  · unfold SRc at r1 ⊢
    rw [x0, x1, x2, x3, x4, x5, b4, upz_n _ _ (by decide), upz_n _ _ (by decide), upz_n _ _ (by decide), upz_n _ _ (by decide), upz_n _ _ (by decide), upz_n _ _ (by decide), upz_n _ _ (by decide), upz_n _ _ (by decide), upz_s, upz_n _ _ (by decide), upz_s, Int.add_zero]
    exact ⟨r1.1, rfl, rfl⟩
  · rw [x1] at hg
    rw [x0, xD g9 (by omega) (by omega)]
    by_cases e : (g9 : Int) = f
    · rw [e, show g9 = f.toNat by omega]
      exact b5.congr (fun k u v => (xCf k u v).symm)
    · exact ((r2 g9 hg).eq (b6 _ (by omega) (by omega) (by omega) (by omega) (by omega)) (b6 _ (by omega) (by omega) (by omega) (by omega) (by omega))).congr (fun k u v => by rw [xC g9 k (by omega) hg e u v])
  · rw [x1] at hg
    rw [xD g9 (by omega) (by omega)] at v
    rw [x4, x0, show ((c : Int) + 1).toNat = c + 1 by omega]
    dsimp only
    rw [if_neg (by omega)]
    by_cases e : g9 = f.toNat
    · rw [if_pos e, show (g9 : Int) = f by omega, xCf j u (by rw [show (g9 : Int) = f by omega] at v; exact v), hm]
      have r5f := r5 f.toNat (by omega)
      rw [Int.toNat_of_nonneg h0] at r5f
      exact eqm_mixP (fun k u v => r5f k u (by omega)) rfl rfl rfl rfl j
    · rw [if_neg e, xC g9 j (by omega) hg (by omega) u v]
      exact r5 g9 hg j u v
  · rw [x4, x5] at hkk
    have kc : k ≤ c := by omega
    by_cases ek : k = c
    · -- the new one
      subst ek
      have a0 : aA X k 0 = f := (xA k 0 (by omega) (by omega) (by omega) (by omega)).trans nw0
      have a1 : ∀ i : Int, 0 ≤ i → i < 4 → aA X k (1 + i) = tT W t i := fun i u v => (xA k (1 + i) (by omega) (by omega) (by omega) (by omega)).trans (nw1 i u v)
      have q0 : k + ((W 4).toNat - k) = (W 4).toNat := by
        rw [hc]
        split <;> omega
      have r5f := r5 f.toNat (by omega)
      rw [Int.toNat_of_nonneg h0] at r5f
      refine ⟨π' k, pc.1, pc.2, by rw [a0]; exact b1, ?_, ?_, ?_, fun f' hf' => ?_⟩
      · rw [a0, x0, xD f h0 (by omega)]
        dsimp only
        rw [if_pos (Nat.le_refl _), q0]
        exact b2.congr (fun j u v => (r5f j u v).symm)
      · rw [a0, x0, xD f h0 (by omega)]
        dsimp only
        rw [if_neg (by omega), if_pos rfl]
        refine b3.congr (fun j u v => ?_)
        rw [hm]
        exact (eqm_mixP (fun k u v => r5f k u (by omega)) rfl rfl rfl rfl j).symm
      · intro j u v
        have A1 := a1 0 (by omega) (by omega)
        have A2 := a1 1 (by omega) (by omega)
        have A3 := a1 2 (by omega) (by omega)
        have A4 := a1 3 (by omega) (by omega)
        rw [show (1 : Int) + 0 = 1 from rfl] at A1
        rw [show (1 : Int) + 1 = 2 from rfl] at A2
        rw [show (1 : Int) + 2 = 3 from rfl] at A3
        rw [show (1 : Int) + 3 = 4 from rfl] at A4
        rw [a0, A1, A2, A3, A4, x0, xD f h0 (by omega)]
        dsimp only
        rw [if_neg (by omega), if_pos rfl, if_pos (Nat.le_refl _), q0]
      · rw [a0] at hf'
        dsimp only
        rw [if_neg (by omega), if_neg hf', if_pos (Nat.le_refl _), q0]
    · -- an old one
      have klt : k < c := by omega
      obtain ⟨kk, hkke⟩ : ∃ kk : Nat, kk = if (W 4).toNat = 40 then k + 1 else k := ⟨_, rfl⟩
      have kq : k + ((W 4).toNat - c) = kk ∧ k + 1 + ((W 4).toNat - c) = kk + 1 ∧ kk < 40 ∧ (kk : Int) < W 4 := by
        by_cases e : (W 4).toNat = 40
        · rw [if_pos e] at hc hkke; omega
        · rw [if_neg e] at hc hkke; omega
      have ae : ∀ i : Int, 0 ≤ i → i < 5 → aA X k i = aA W kk i := fun i u v => by
        rw [xA k i (by omega) (by omega) u v, old k i (by omega) (by omega) u v, hkke]
        by_cases e : W 4 = 40
        · rw [if_pos e, if_pos (by omega)]; rfl
        · rw [if_neg e, if_neg (by omega)]
      have hb := (hW.a (a := (kk : Int)) (by omega) (by omega)).1
      obtain ⟨i, i1, i2, i3, i4, i5, i6, i7⟩ := r6 kk (by omega)
      have pk := hk k klt
      rw [← hkke] at pk
      have pi : i = π' k := by
        have h9 := (hπ.1 kk kq.2.2.1).2
        rw [i2] at h9
        have := Option.some.inj h9
        omega
      have pk1 := hπ'.1 k (by omega)
      have pne : π' k ≠ π' c := fun e => ek (hπ'.2 k c (by omega) cb e)
      have a0 := ae 0 (by omega) (by omega)
      have keep : ∀ b, S + 45 + 5 * i ≤ b → b ≤ S + 45 + 5 * i + 4 → I' b = I b := fun b u v => acts b (by omega) (by omega) (by omega)
      refine ⟨i, i1, by rw [pi]; exact pk1.2, ?_, ?_, ?_, ?_, fun f' hf' => ?_⟩
      · rw [a0, keep _ (by omega) (by omega)]; exact i3
      · rw [a0, x0, xD _ hb.1 (by omega)]
        dsimp only
        rw [if_pos kc, kq.1]
        exact i4.eq (keep _ (by omega) (by omega)) (keep _ (by omega) (by omega))
      · rw [a0, x0, xD _ hb.1 (by omega)]
        dsimp only
        rw [if_pos (show k + 1 ≤ c by omega), kq.2.1]
        exact i5.eq (keep _ (by omega) (by omega)) (keep _ (by omega) (by omega))
      · rw [a0, ae 1 (by omega) (by omega), ae 2 (by omega) (by omega), ae 3 (by omega) (by omega), ae 4 (by omega) (by omega), x0, xD _ hb.1 (by omega)]
        dsimp only
        rw [if_pos kc, if_pos (show k + 1 ≤ c by omega), kq.1, kq.2.1]
        exact i6
      · rw [a0] at hf'
        dsimp only
        rw [if_pos kc, if_pos (show k + 1 ≤ c by omega), kq.1, kq.2.1]
        exact i7 f' hf'
theorem SA.acts (T : ST sh S) {g : Int → Option Nat} {n : Nat} {t : Tr n} {a : Nat} (h : SA sh I n t a) : SA (shA2 sh S g) I n t a :=
  SA.ext (sh := sh) (sh' := shA2 sh S g) (fun b hb => ⟨rfl, up1_n _ _ (fun e => by have h2 := T.2.2.2.2.1.2.1; rw [e, h2] at hb; omega)⟩) n t a h
theorem x_mix (L : CL sh x) (R : Room sh) (hS : SR sh I (x + 16) W) (hI : I (x + 5 + 1) 0 = W 0) (hW : WI W) {f t : Int} (hf : i32 f) (ht : i32 t) :
    ((0 ≤ f ∧ f < W 1) → (0 ≤ t ∧ t < W 2) → ∃ g, (∃ π', AP2 (shA2 sh (x + 16) g) (x + 16) π') ∧ CSt (s_X1_mix x f t (sh, I, J)) sh (shA2 sh (x + 16) g) I J x (1 - lkI (W 0) (fD W f) (fC W f) (fD W f) (mixP (fD W f).toNat (tT W t 0) (tT W t 1) (tT W t 2) (tT W t 3) (fC W f))) (mixF (pshA W f t) f (tT W t 0) (tT W t 1) (tT W t 2) (tT W t 3))) ∧
    (¬((0 ≤ f ∧ f < W 1) ∧ (0 ≤ t ∧ t < W 2)) → CB (s_X1_mix x f t (sh, I, J)) sh I J 3) := by
  have hc1 := hW.c1
  have hc2 := hW.c2
  have hc4 := hW.c4
  have hp := hW.pp
  have D := L.dl
  have T := L.st
  obtain ⟨y1, y2⟩ := x1_formAt (J := J) L R (n := W 1) hS.1.1.2.1 (by omega) hf
  obtain ⟨z1, z2⟩ := x1_tableAt (J := J) L R (n := W 2) hS.1.1.2.2.1 (by omega) ht
  refine ⟨fun h1 h2 => ?_, fun h => ?_⟩
  · obtain ⟨f1, f2⟩ := hS.fm hW h1.1 h1.2
    have Q := L.q (k := f) (by omega)
    obtain ⟨t0, t1, t2, t3, -⟩ := hW.t h2.1 h2.2
    have a0 := x1_ta (J := J) L hS hW h2.1 h2.2 (i := 0) (by omega) (by omega)
    have a1 := x1_ta (J := J) L hS hW h2.1 h2.2 (i := 1) (by omega) (by omega)
    have a2 := x1_ta (J := J) L hS hW h2.1 h2.2 (i := 2) (by omega) (by omega)
    have a3 := x1_ta (J := J) L hS hW h2.1 h2.2 (i := 3) (by omega) (by omega)
    obtain ⟨d, hd⟩ : ∃ d : Nat, fD W f = d := ⟨(fD W f).toNat, by omega⟩
    obtain ⟨m, hm⟩ : ∃ m, mixP (fD W f).toNat (tT W t 0) (tT W t 1) (tT W t 2) (tT W t 3) (fC W f) = m := ⟨_, rfl⟩
    have hm2 := hm
    rw [hd, Int.toNat_natCast] at hm
    have f1d := f1
    rw [hd] at f1d
    obtain ⟨q, hq⟩ : ∃ q, x + 16 + 13 + 2 * f.toNat = q := ⟨_, rfl⟩
    have hqb : x + 29 ≤ q ∧ q ≤ x + 59 := by omega
    rw [hq] at f1 f1d Q y1
    obtain ⟨I1, e1, r1, k1⟩ := x6_mixedT (J := J) D hI hp t0 t1 t2 t3 Q L.fw (by omega) (by omega) (by omega) f1d
    rw [hm] at r1
    have f1k := f1d.keep k1 (by omega) (by omega)
    have e2 := x8_same (J := J) L.fw Q hp (by omega) (by omega) r1 f1k
    have k1x : ∀ a, a < x + 9 ∨ (x + 12 < a ∧ a < x + 507) ∨ x + 508 < a → I1 a = I a := fun a ha => k1 a (by omega)
    obtain ⟨π, hπ⟩ := T.ap
    have h9 : I1 (x + 16) 9 = ((W 4).toNat : Nat) := by rw [k1x _ (by omega), hS.1.2.1]; omega
    obtain ⟨c, g, π', I2, e3, hc, hA, hk, b1, b2, b3, b4, b6⟩ := x9_writes (J := J) T hπ (n := (W 4).toNat) (f := f) (by omega) h9 Q L.fw (by omega) (by omega) (by omega) (by omega) (show (d : Int) ≤ 40 by omega) f1k r1
    have cb : c < 40 := by rw [hc]; split <;> omega
    have pc := (hA.1 c cb).1
    -- the form becomes what was mixed
    have L2 : CL (shA2 sh (x + 16) g) x := by
      obtain ⟨π0, p0⟩ := L.rp
      obtain ⟨π2, p2⟩ := L.im.ap
      exact L.ext (fun a _ _ => ⟨rfl, rfl⟩) (fun a _ _ _ h _ _ _ => up1_n _ _ (by omega)) ⟨π0, p0.eq (up1_n _ _ (by omega))⟩ ⟨π', hA⟩ ⟨π2, p2.eq (up1_n _ _ (by omega))⟩
    have Q2 : FA (shA2 sh (x + 16) g) q := by
      rw [← hq]
      exact L2.st.ff (by omega)
    have r1b : FM I2 (x + 507) (W 0) d m := r1.eq (b6 _ (by omega) (by omega)) (b6 _ (by omega) (by omega))
    obtain ⟨I3, e4, r4, k4⟩ := x8_be (I := I2) (J := J) Q2 L2.fw (by omega) (by omega) r1b
    have m13 : ∀ a, a ≠ x + 16 → (a < x + 16 + 45 + 5 * π' c ∨ x + 16 + 45 + 5 * π' c + 4 < a) → a ≠ q → a ≠ q + 1 → I3 a = I1 a := fun a u v w z => by rw [k4 a (by omega), b6 a u v]
    have lk := lkI_symm (W 0) d m d (fC W f) (by omega) (by omega)
    have lb := (lkI_iff (p := W 0) (d := (d : Int)) (x := fC W f) (e := (d : Int)) (y := m) (by omega)).1
    have kind : ∀ a, sh.2.1 a = 10 ∨ sh.2.1 a = 12 → I3 a = I a := fun a ha => by
      have ca := (T.ca pc)
      obtain ⟨w0, ⟨-, w1⟩, -, w2⟩ := ca
      have n1 : a ≠ x + 16 := fun e => by rw [e, T.1] at ha; omega
      have n2 : a ≠ q := fun e => by rw [e, Q.1] at ha; omega
      have n3 : a ≠ q + 1 := fun e => by rw [e, Q.2.2.1] at ha; omega
      have n4 : a ≠ x + 507 := fun e => by rw [e, L.fw.1] at ha; omega
      have n5 : a ≠ x + 507 + 1 := fun e => by rw [e, L.fw.2.2.1] at ha; omega
      have s0 : a ≠ x + 16 + 45 + 5 * π' c := fun e => by rw [e, w0] at ha; omega
      have s1 : a ≠ x + 16 + 45 + 5 * π' c + 1 := fun e => by rw [e, w1.1] at ha; omega
      have s2 : a ≠ x + 16 + 45 + 5 * π' c + 1 + 1 := fun e => by rw [e, w1.2.2.1] at ha; omega
      have s3 : a ≠ x + 16 + 45 + 5 * π' c + 3 := fun e => by rw [e, w2.1] at ha; omega
      have s4 : a ≠ x + 16 + 45 + 5 * π' c + 3 + 1 := fun e => by rw [e, w2.2.2.1] at ha; omega
      have d1 : a ≠ x + 5 + 4 := fun e => by rw [e, D.ftwo.1] at ha; omega
      have d2 : a ≠ x + 5 + 4 + 1 := fun e => by rw [e, D.ftwo.2.2.1] at ha; omega
      have d3 : a ≠ x + 5 + 6 := fun e => by rw [e, D.fleft.1] at ha; omega
      have d4 : a ≠ x + 5 + 6 + 1 := fun e => by rw [e, D.fleft.2.2.1] at ha; omega
      rw [m13 a n1 (by omega) n2 n3, k1x a (by omega)]
    have fin : ∀ v : Int, (v = 0 ∨ v = 1) → s_X1_mix_b57 x f q v (sh, I1, J) = some (.inr (v, (shA2 sh (x + 16) g, I3, J))) := by
      intro v hv
      unfold s_X1_mix_b57
      rw [l_st L, bsome, l_wk L, bsome, s_ck T, bsome, e3, bsome, l_wk L2, bsome, f_ck Q2, bsome, e4, bsome, bz2_m hv, bsome]
    refine ⟨g, ⟨π', hA⟩, I3, J, ?_, ?_, fun a _ u v => ?_, fun _ _ => rfl⟩
    · rw [hm2, hd, ← lk]
      unfold s_X1_mix
      rw [l_ck L, bsome, y1 h1, xb_r, l_ck L, bsome, z1 h2, xb_r, l_dk L, bsome]
      dsimp only
      rw [a0, bsome, a1, bsome, a2, bsome, a3, bsome, l_wk L, bsome, d_ck D, bsome, e1, bsome, l_wk L, bsome, f_ck L.fw, bsome, e2, bsome]
      dsimp only
      rw [← lk] at lb
      rcases lb with e | e
      · rw [e, if_pos (show w32 0 = 0 from rfl), fin 1 (Or.inr rfl)]
        rfl
      · rw [e, if_neg (show ¬ w32 1 = 0 by decide), fin 0 (Or.inl rfl)]
        rfl
    · refine hS.mix hW h1.1 h1.2 h2.1 h2.2 hm2.symm hπ hA hc hk ?_ ?_ ?_ ?_ ?_ ?_ (fun n t a g2 => SA.keep kind n t a g2 |> SA.acts T)
      · rw [k4 _ (by omega)]; exact b1
      · rw [hd]; exact b2.eq (k4 _ (by omega)) (k4 _ (by omega))
      · rw [hd]; exact b3.eq (k4 _ (by omega)) (k4 _ (by omega))
      · rw [k4 _ (by omega), b4, k1x _ (by omega)]
      · rw [hd, hq]; exact r4
      · intro b u v w y z
        rw [m13 b (by omega) w (by omega) (by omega), k1x b (by omega)]
    · unfold xS at u
      rw [m13 a (by omega) (by omega) (by omega) (by omega), k1x a (by omega)]
  · unfold CB s_X1_mix
    rw [l_ck L, bsome]
    by_cases g1 : 0 ≤ f ∧ f < W 1
    · have := z2 (fun e => h ⟨g1, e⟩)
      unfold CB at this
      rw [y1 g1, xb_r, l_ck L, bsome, this, xb_l]
    · have := y2 g1
      unfold CB at this
      rw [this, xb_l]
/-- undone, done again: the form held at a place of the history -/
theorem SR.hist (h : SR sh I S W) (hW : WI W) {V : Int → Int} {k : Nat} {f a b c d : Int} (h45 : V 4 = k ∧ V 4 + V 5 = W 4 + W 5) (ho : ∀ j : Int, j ≠ 4 ∧ j ≠ 5 → V j = W j) (h0 : 0 ≤ f) (h1 : f < W 1) (G : Nat → Nat → Int → Int) (hG : ∀ k : Nat, (k : Int) < W 4 + W 5 → SRg sh I S W G k) (hcur : ∀ f' : Nat, (f' : Int) < W 1 → f' ≠ f.toNat → ∀ j : Int, 0 ≤ j → j ≤ fD W f' → G k f' j % W 0 = fC W f' j % W 0) (hmix : ∀ j : Int, 0 ≤ j → j ≤ fD W f → G k f.toNat j % W 0 = mixP (fD W f).toNat a b c d (fC W f) j % W 0)
    (b4 : I' S = upz (I S) 9 (k : Int)) (b5 : FM I' (S + 13 + 2 * f.toNat) (W 0) (fD W f) (G k f.toNat)) (b6 : ∀ q, S < q → q ≤ S + 244 → q ≠ S + 13 + 2 * f.toNat → q ≠ S + 13 + 2 * f.toNat + 1 → I' q = I q) (hA : ∀ (n : Nat) (t : Tr n) (q : Nat), SA sh I n t q → SA sh I' n t q) : SR sh I' S (mixF V f a b c d) := by
  have c1 := hW.c1
  have c4 := hW.c4
  obtain ⟨r1, r2, r3, r4, -⟩ := SR_iff.mp h
  have edV : fD V f = fD W f := ho _ (by omega)
  have ecV : ∀ j, 0 ≤ j → fC V f j = fC W f j := fun j hj => ho _ (by omega)
  have V0 : V 0 = W 0 := ho 0 (by decide)
  have d8 := (hW.f h0 h1).1
  obtain ⟨X, hX⟩ : ∃ X, Jvm.Pilot.CLetterFormsLaw_law_r4541_621673.mixF V f a b c d = X := ⟨_, rfl⟩
  have xo := fun k hk => mixF_o V (f := f) (a := a) (b := b) (c := c) (d := d) (k := k) hk
  have xf := mixF_f V (f := f) (a := a) (b := b) (c := c) (d := d)
  rw [hX] at xo xf ⊢
  rw [edV] at xo xf
  have x0 : X 0 = W 0 := (xo 0 (by omega)).trans V0
  have x1 : X 1 = W 1 := (xo 1 (by omega)).trans (ho 1 (by decide))
  have x2 : X 2 = W 2 := (xo 2 (by omega)).trans (ho 2 (by decide))
  have x3 : X 3 = W 3 := (xo 3 (by omega)).trans (ho 3 (by decide))
  have x4 : X 4 = k := (xo 4 (by omega)).trans h45.1
  have x45 : X 4 + X 5 = W 4 + W 5 := by rw [xo 4 (by omega), xo 5 (by omega)]; exact h45.2
  have xD : ∀ g, 0 ≤ g → g < 16 → fD X g = fD W g := fun g u v => (xo _ (by omega)).trans (ho _ (by omega))
  have xC : ∀ g j, 0 ≤ g → g < W 1 → g ≠ f → 0 ≤ j → j ≤ fD W g → fC X g j = fC W g j := fun g j u v w y z => by
    have := (hW.f u v).1
    exact (xo _ (by omega)).trans (ho _ (by omega))
  have xCf : ∀ j, 0 ≤ j → j ≤ fD W f → fC X f j % W 0 = G k f.toNat j % W 0 := fun j u v => by
    rw [xf j u v, V0, emod_emod_, hmix j u v]
    exact eqm_mixP (fun l lu _ => by rw [ecV l lu]) rfl rfl rfl rfl j
  have hi : ∀ j, 166 ≤ j → j < 3606 → X j = W j := fun j u v => (xo j (by omega)).trans (ho j (by omega))
  refine SR_iff.mpr ⟨?_, fun g9 hg => ?_, r3.ext hW x2 (fun j u v => hi j u (by omega)) (fun q u v => b6 q (by omega) (by omega) (by omega) (by omega)), r4.ext hW x3 (fun j u v => hi j (by omega) (by omega)) rfl hA, ⟨G, fun g9 hg j u v => ?_, fun k' hk' => ?_⟩⟩
  · unfold SRc at r1 ⊢
    rw [x0, x1, x2, x3, x4, b4, upz_n _ _ (by decide), upz_n _ _ (by decide), upz_n _ _ (by decide), upz_n _ _ (by decide), upz_s, upz_n _ _ (by decide)]
    exact ⟨r1.1, rfl, by rw [r1.2.2, ← x45, x4]⟩
  · rw [x1] at hg
    rw [x0, xD g9 (by omega) (by omega)]
    by_cases e : (g9 : Int) = f
    · rw [e, show g9 = f.toNat by omega]
      exact b5.congr (fun j u v => (xCf j u v).symm)
    · exact ((r2 g9 hg).eq (b6 _ (by omega) (by omega) (by omega) (by omega)) (b6 _ (by omega) (by omega) (by omega) (by omega))).congr (fun j u v => by rw [xC g9 j (by omega) hg e u v])
  · rw [x1] at hg
    rw [xD g9 (by omega) (by omega)] at v
    rw [x4, x0, Int.toNat_natCast]
    by_cases e : g9 = f.toNat
    · rw [e, show ((f.toNat : Nat) : Int) = f by omega]
      exact (xCf j u (by rw [show (g9 : Int) = f by omega] at v; exact v)).symm
    · rw [xC g9 j (by omega) hg (by omega) u v]
      exact hcur g9 hg e j u v
  · rw [x45] at hk'
    have hb := (hW.a (a := (k' : Int)) (by omega) (by omega)).1
    exact (hG k' hk').ext (by omega) (by omega) x0 xD (fun j u v => hi j (by omega) v) (fun q u v => b6 q (by omega) v (by omega) (by omega)) rfl
theorem x_undo (L : CL sh x) (hS : SR sh I (x + 16) W) (hW : WI W) {v : Int × Int × Int × Int} (hv : ivT (W 0) (aA W (W 4 - 1) 1) (aA W (W 4 - 1) 2) (aA W (W 4 - 1) 3) (aA W (W 4 - 1) 4) = v) :
    (W 4 = 0 → s_X1_undo x (sh, I, J) = some (-1, (sh, I, J))) ∧
    (W 4 ≠ 0 → ∃ I', s_X1_undo x (sh, I, J) = some (aA W (W 4 - 1) 0, (sh, I', J)) ∧ SR sh I' (x + 16) (mixF (undW W) (aA W (W 4 - 1) 0) v.1 v.2.1 v.2.2.1 v.2.2.2) ∧ ∀ a, (a < x + 16 ∨ x + 260 < a) → I' a = I a) := by
  have c1 := hW.c1
  have c4 := hW.c4
  have hp := hW.pp
  have T := L.st
  have h9 : I (x + 16) 9 = W 4 := hS.1.2.1
  unfold s_X1_undo
  rw [l_st L, bsome, s_gI T, bsome, h9, w32_id (x := W 4) (by omega) (by omega)]
  refine ⟨fun h => by rw [if_pos h], fun h => ?_⟩
  rw [if_neg h, bsome, s_gI T, bsome, h9, s_pI T, bsome]
  obtain ⟨k, hk⟩ : ∃ k : Nat, W 4 - 1 = k := ⟨(W 4 - 1).toNat, by omega⟩
  rw [hk] at hv ⊢
  obtain ⟨I1, hI1⟩ : ∃ I1, up1 I (x + 16) (upz (I (x + 16)) 9 (k : Int)) = I1 := ⟨_, rfl⟩
  have o1 : ∀ a, a ≠ x + 16 → I1 a = I a := fun a u => by rw [← hI1, up1_n _ _ u]
  have s1 : I1 (x + 16) = upz (I (x + 16)) 9 k := by rw [← hI1, up1_s]
  obtain ⟨-, -, -, -, G, g1, g2⟩ := SR_iff.mp hS
  obtain ⟨i, i1, i2, i3, i4, i5, i6, i7⟩ := g2 k (by omega)
  obtain ⟨hb, hT⟩ := hW.a (a := (k : Int)) (by omega) (by omega)
  obtain ⟨f, hf⟩ : ∃ f, aA W k 0 = f := ⟨_, rfl⟩
  rw [hf] at hb i3 i4 i5 i6 i7 ⊢
  obtain ⟨t0, ⟨t1, F1⟩, t2, F2⟩ := T.ca i1
  obtain ⟨a, ha⟩ : ∃ a, x + 16 + 45 + 5 * i = a := ⟨_, rfl⟩
  rw [ha] at i2 i3 i4 i5 t0 t1 F1 t2 F2
  have ab : x + 61 ≤ a ∧ a ≤ x + 256 := by omega
  have Q := L.q (k := f) (by omega)
  have sf := s_form (I := I1) (J := J) T (k := f.toNat) (by omega)
  rw [Int.toNat_of_nonneg hb.1] at sf
  obtain ⟨q, hq⟩ : ∃ q, x + 16 + 13 + 2 * f.toNat = q := ⟨_, rfl⟩
  have qb : x + 29 ≤ q ∧ q ≤ x + 59 := by omega
  rw [hq] at Q sf
  have d8 := (hW.f hb.1 hb.2).1
  obtain ⟨I2, e2, r2, f2⟩ := x8_be (I := I1) (J := J) Q F1 (by omega) (by omega) (i4.eq (o1 _ (by omega)) (o1 _ (by omega)))
  have o2 : ∀ b, b ≠ x + 16 → b ≠ q → b ≠ q + 1 → I2 b = I b := fun b u v w => by rw [f2 b (by omega), o1 b u]
  have kind : ∀ b, sh.2.1 b = 10 ∨ sh.2.1 b = 12 → I2 b = I b := fun b hb => o2 b (fun e => by rw [e, T.1] at hb; omega) (fun e => by rw [e, Q.1] at hb; omega) (fun e => by rw [e, Q.2.2.1] at hb; omega)
  have sa := s_act (I := I1) (J := J) T (k := k) (by omega) i2
  refine ⟨I2, ?_, ?_, fun b u => o2 b (by omega) (by omega) (by omega)⟩
  · rw [hI1, l_st L, bsome, s_ac T, bsome, bsome, s_gI T, bsome, s1, upz_s, sa, bsome, bsome, s_fo T, bsome, gI_m t0, bsome, o1 a (by omega), i3, sf, bsome, gR_m t0 t1, bsome, f_ck Q, bsome, e2, bsome, gI_m t0, bsome, o2 a (by omega) (by omega) (by omega), i3]
  · obtain ⟨u1, u2, u3, u4⟩ := ivT_ok hp hT.2.2.2.2
    rw [hv] at u1 u2 u3 u4
    have e4 : W 4 = ((k + 1 : Nat) : Int) := by omega
    rw [e4, Int.toNat_natCast] at g1
    refine SR.hist hS hW (k := k) ⟨by rw [(undW_4 W).1]; omega, by rw [(undW_4 W).1, (undW_4 W).2]; omega⟩ (fun j hj => undW_o W hj) hb.1 hb.2 G g2 (fun f' hf' hne j u w => ?_) (fun j u w => ?_) (by rw [f2 _ (by omega), s1]) (by rw [hq]; exact r2) (fun b u w y z => o2 b (by omega) (by omega) (by omega)) (fun n t b g => SA.keep kind n t b g)
    · rw [← i7 f' hne]
      exact g1 f' hf' j u w
    · have g1f := g1 f.toNat (by omega)
      rw [Int.toNat_of_nonneg hb.1] at g1f
      have e1 := mixP_undo (p := W 0) (n := (fD W f).toNat) (x := G k f.toNat) u1 u2 u3 u4 j u (by omega)
      rw [← e1]
      exact eqm_mixP (fun l lu lv => by rw [← i6 l lu (by omega)]; exact g1f l lu (by omega)) rfl rfl rfl rfl j
theorem x_redo (L : CL sh x) (hS : SR sh I (x + 16) W) (hW : WI W) :
    (W 5 = 0 → s_X1_redo x (sh, I, J) = some (-1, (sh, I, J))) ∧
    (W 5 ≠ 0 → ∃ I', s_X1_redo x (sh, I, J) = some (aA W (W 4) 0, (sh, I', J)) ∧ SR sh I' (x + 16) (mixF (redW W) (aA W (W 4) 0) (aA W (W 4) 1) (aA W (W 4) 2) (aA W (W 4) 3) (aA W (W 4) 4)) ∧ ∀ a, (a < x + 16 ∨ x + 260 < a) → I' a = I a) := by
  have c1 := hW.c1
  have c4 := hW.c4
  have hp := hW.pp
  have T := L.st
  have h9 : I (x + 16) 9 = W 4 := hS.1.2.1
  have h8 : I (x + 16) 8 = W 4 + W 5 := hS.1.2.2
  unfold s_X1_redo
  rw [l_st L, bsome, s_gI T, bsome, bsome, s_gI T, bsome, h9, h8, w32_id (x := W 4) (by omega) (by omega), w32_id (x := W 4 + W 5) (by omega) (by omega)]
  refine ⟨fun h => by rw [if_pos (by omega)], fun h => ?_⟩
  obtain ⟨k, hk⟩ : ∃ k : Nat, W 4 = k := ⟨(W 4).toNat, by omega⟩
  obtain ⟨-, -, -, -, G, g1, g2⟩ := SR_iff.mp hS
  obtain ⟨i, i1, i2, i3, i4, i5, i6, i7⟩ := g2 k (by omega)
  obtain ⟨hb, hT⟩ := hW.a (a := (k : Int)) (by omega) (by omega)
  rw [if_neg (by omega), hk]
  obtain ⟨f, hf⟩ : ∃ f, aA W k 0 = f := ⟨_, rfl⟩
  rw [hf] at hb i3 i4 i5 i6 i7 ⊢
  obtain ⟨t0, ⟨t1, F1⟩, t2, F2⟩ := T.ca i1
  obtain ⟨a, ha⟩ : ∃ a, x + 16 + 45 + 5 * i = a := ⟨_, rfl⟩
  rw [ha] at i2 i3 i4 i5 t0 t1 F1 t2 F2
  have ab : x + 61 ≤ a ∧ a ≤ x + 256 := by omega
  obtain ⟨I1, hI1⟩ : ∃ I1, up1 I (x + 16) (upz (I (x + 16)) 9 ((k : Int) + 1)) = I1 := ⟨_, rfl⟩
  have o1 : ∀ a, a ≠ x + 16 → I1 a = I a := fun a u => by rw [← hI1, up1_n _ _ u]
  have s1 : I1 (x + 16) = upz (I (x + 16)) 9 ((k : Int) + 1) := by rw [← hI1, up1_s]
  have Q := L.q (k := f) (by omega)
  have sf := s_form (I := I1) (J := J) T (k := f.toNat) (by omega)
  rw [Int.toNat_of_nonneg hb.1] at sf
  obtain ⟨q, hq⟩ : ∃ q, x + 16 + 13 + 2 * f.toNat = q := ⟨_, rfl⟩
  have qb : x + 29 ≤ q ∧ q ≤ x + 59 := by omega
  rw [hq] at Q sf
  have d8 := (hW.f hb.1 hb.2).1
  obtain ⟨I2, e2, r2, f2⟩ := x8_be (I := I1) (J := J) Q F2 (by omega) (by omega) (i5.eq (o1 _ (by omega)) (o1 _ (by omega)))
  have o2 : ∀ b, b ≠ x + 16 → b ≠ q → b ≠ q + 1 → I2 b = I b := fun b u v w => by rw [f2 b (by omega), o1 b u]
  have kind : ∀ b, sh.2.1 b = 10 ∨ sh.2.1 b = 12 → I2 b = I b := fun b hb => o2 b (fun e => by rw [e, T.1] at hb; omega) (fun e => by rw [e, Q.1] at hb; omega) (fun e => by rw [e, Q.2.2.1] at hb; omega)
  have sa := s_act (I := I) (J := J) T (k := k) (by omega) i2
  refine ⟨I2, ?_, ?_, fun b u => o2 b (by omega) (by omega) (by omega)⟩
  · rw [bsome, s_ac T, bsome, bsome, s_gI T, bsome, h9, hk, sa, bsome, bsome, s_gI T, bsome, h9, hk, s_pI T, bsome, hI1, l_st L, bsome, s_fo T, bsome, gI_m t0, bsome, o1 a (by omega), i3, sf, bsome, gR_m t0 t2, bsome, f_ck Q, bsome, e2, bsome, gI_m t0, bsome, o2 a (by omega) (by omega) (by omega), i3]
  · rw [hk, Int.toNat_natCast] at g1
    refine SR.hist hS hW (k := k + 1) ⟨by rw [(redW_4 W).1]; omega, by rw [(redW_4 W).1, (redW_4 W).2]; omega⟩ (fun j hj => redW_o W hj) hb.1 hb.2 G g2 (fun f' hf' hne j u w => ?_) (fun j u w => ?_) (by rw [f2 _ (by omega), s1]; rfl) (by rw [hq]; exact r2) (fun b u w y z => o2 b (by omega) (by omega) (by omega)) (fun n t b g => SA.keep kind n t b g)
    · rw [i7 f' hne]
      exact g1 f' hf' j u w
    · have g1f := g1 f.toNat (by omega)
      rw [Int.toNat_of_nonneg hb.1] at g1f
      rw [i6 j u w]
      exact eqm_mixP (fun l lu lv => g1f l lu (by omega)) rfl rfl rfl rfl j
end CMy
