/-! the twin: same, keep, orbit, kind -/
set_option maxRecDepth 100000
def rW (x n : Int) (s : Int ⊕ Int) : Prop := (∃ n', n ≤ n' ∧ s = .inl n') ∨ (x = 1 ∧ ∃ e, 0 ≤ e ∧ s = .inr e)
def rS (x n : Int) (s : Int ⊕ Int) : Prop := (x = 0 ∧ ∃ n', n + 1 ≤ n' ∧ s = .inl n') ∨ (x = 1 ∧ ∃ e, 0 ≤ e ∧ s = .inr e)
theorem rS.w {x n : Int} {s : Int ⊕ Int} (h : rS x n s) : rW x n s := by
  rcases h with ⟨_, n', h1, h2⟩ | h
  · exact Or.inl ⟨n', by omega, h2⟩
  · exact Or.inr h
theorem lpS_w {x : Int} {body : Nat → Int → Int ⊕ Int} (h : ∀ i n, rW x n (body i n)) : ∀ (k i : Nat) (n : Int), rW x n (lpS body k i n)
  | 0, _, n => Or.inl ⟨n, Int.le_refl n, rfl⟩
  | k + 1, i, n => by
    show rW x n ((body i n).elim (fun n' => lpS body k (i + 1) n') .inr)
    rcases h i n with ⟨n', h1, h2⟩ | ⟨hx, e, h1, h2⟩
    · rw [h2]
      rcases lpS_w h k (i + 1) n' with ⟨n2, h3, h4⟩ | h3
      · exact Or.inl ⟨n2, by omega, h4⟩
      · exact Or.inr h3
    · rw [h2]
      exact Or.inr ⟨hx, e, h1, rfl⟩
theorem lpS_s {x : Int} {body : Nat → Int → Int ⊕ Int} (h : ∀ i n, rW x n (body i n)) {j : Nat} (hj : ∀ n, rS x n (body j n)) : ∀ (k i : Nat) (n : Int), i ≤ j → j < i + k → rS x n (lpS body k i n)
  | 0, i, n, h1, h2 => by omega
  | k + 1, i, n, h1, h2 => by
    show rS x n ((body i n).elim (fun n' => lpS body k (i + 1) n') .inr)
    by_cases e : i = j
    · rw [e]
      rcases hj n with ⟨hx, n', h3, h4⟩ | ⟨hx, e, h3, h4⟩
      · rw [h4]
        rcases lpS_w h k (j + 1) n' with ⟨n2, h5, h6⟩ | h5
        · exact Or.inl ⟨hx, n2, by omega, h6⟩
        · exact Or.inr h5
      · rw [h4]
        exact Or.inr ⟨hx, e, h3, rfl⟩
    · rcases h i n with ⟨n', h3, h4⟩ | ⟨hx, e, h3, h4⟩
      · rw [h4]
        rcases lpS_s h hj k (i + 1) n' (by omega) (by omega) with ⟨hx, n2, h5, h6⟩ | h5
        · exact Or.inl ⟨hx, n2, by omega, h6⟩
        · exact Or.inr h5
      · rw [h4]
        exact Or.inr ⟨hx, e, h3, rfl⟩
theorem lpS_congr {body body' : Nat → Int → Int ⊕ Int} : ∀ (k i : Nat) (n : Int), (∀ j n, i ≤ j → j < i + k → body j n = body' j n) → lpS body k i n = lpS body' k i n
  | 0, _, _, _ => rfl
  | k + 1, i, n, h => by
    show (body i n).elim _ _ = (body' i n).elim _ _
    rw [h i n (Nat.le_refl _) (by omega)]
    cases body' i n with
    | inl n' => exact lpS_congr k (i + 1) n' (fun j n a b => h j n (by omega) (by omega))
    | inr e => rfl
/-- so many added up -/
def cs (g : Nat → Nat) : Nat → Nat → Nat
  | 0, _ => 0
  | k + 1, i => g i + cs g k (i + 1)
theorem lpS_add (g : Nat → Nat) : ∀ (k i : Nat) (n : Int), lpS (fun i n => .inl (n + g i)) k i n = .inl (n + cs g k i)
  | 0, _, n => by
    show Sum.inl n = Sum.inl (n + ((0 : Nat) : Int))
    simp
  | k + 1, i, n => by
    show lpS _ k (i + 1) (n + g i) = Sum.inl (n + ((g i + cs g k (i + 1) : Nat) : Int))
    rw [lpS_add g k (i + 1)]
    congr 1
    omega
theorem trD_w {p : Int} {F G : Fo} {x : Int} (hx : x = 0 ∨ x = 1) (a b c d : Nat) (n : Int) : rW x n (trD p F G x a b c d n) := by
  unfold trD
  split
  · split
    · exact Or.inl ⟨n + 1, by omega, rfl⟩
    · exact Or.inr ⟨by omega, _, by omega, rfl⟩
  · exact Or.inl ⟨n, Int.le_refl n, rfl⟩
theorem tri_s {p : Int} {F G : Fo} {x : Int} (hx : x = 0 ∨ x = 1) (hp : 0 < p) {a b c d : Nat} (ha : (a : Int) < p) (hb : (b : Int) < p) (hc : (c : Int) < p) (hd : (d : Int) < p) (h : gdT p F G a b c d = 1) : (x = 0 → 1 ≤ triP p F G x) ∧ (x = 1 → 0 ≤ triP p F G x) := by
  have wC : ∀ a b c n, rW x n (trC p F G x a b c n) := fun a b c n => lpS_w (trD_w hx a b c) _ _ _
  have wB : ∀ a b n, rW x n (trB p F G x a b n) := fun a b n => lpS_w (wC a b) _ _ _
  have wA : ∀ a n, rW x n (trA p F G x a n) := fun a n => lpS_w (wB a) _ _ _
  have sD : ∀ n, rS x n (trD p F G x a b c d n) := by
    intro n
    unfold trD
    rw [if_pos h]
    split
    · exact Or.inl ⟨by assumption, n + 1, by omega, rfl⟩
    · exact Or.inr ⟨by omega, _, by omega, rfl⟩
  have sC : ∀ n, rS x n (trC p F G x a b c n) := fun n => lpS_s (trD_w hx a b c) sD _ _ _ (by omega) (by omega)
  have sB : ∀ n, rS x n (trB p F G x a b n) := fun n => lpS_s (wC a b) sC _ _ _ (by omega) (by omega)
  have sA : ∀ n, rS x n (trA p F G x a n) := fun n => lpS_s (wB a) sB _ _ _ (by omega) (by omega)
  have s0 : rS x 0 (lpS (trA p F G x) p.toNat 0 0) := lpS_s wA sA _ _ _ (by omega) (by omega)
  unfold triP
  rcases s0 with ⟨h1, n', h2, h3⟩ | ⟨h1, e, h2, h3⟩
  · rw [h3]
    refine ⟨fun _ => ?_, fun h9 => absurd h9 (by omega)⟩
    show 1 ≤ if x = 0 then n' else -1
    rw [if_pos h1]
    omega
  · rw [h3]
    exact ⟨fun h9 => absurd h9 (by omega), fun _ => h2⟩
/-- no table does -/
theorem tri_no {p : Int} {F G : Fo} (h : ∀ a b c d : Nat, gdT p F G a b c d ≠ 1) : triP p F G 1 = -1 := by
  have id0 : ∀ (body : Nat → Int → Int ⊕ Int), (∀ i n, body i n = .inl n) → ∀ (k i : Nat) (n : Int), lpS body k i n = .inl n := by
    intro body hb k
    induction k with
    | zero => intro i n; rfl
    | succ k ih =>
      intro i n
      show (body i n).elim _ _ = _
      rw [hb]
      exact ih (i + 1) n
  have h0 := id0 (trA p F G 1) (fun a n => id0 _ (fun b n => id0 _ (fun c n => id0 _ (fun d n => if_neg (h a b c d)) _ _ _) _ _ _) _ _ _) p.toNat 0 0
  unfold triP
  rw [h0]
  rfl
theorem mixP_0s (n : Nat) (a b c d : Int) : mixP n a b c d (fun _ => 0) = fun _ => 0 := by
  have := mixP_sm n 0 a b c d (fun _ _ => 0)
  exact this
theorem mixP_nz {p : Int} {n : Nat} {a b c d : Int} {x : Int → Int} (h : nz p n x) (k : Int) : mixP n a b c d x k % p = 0 := by
  rw [eqm_mixP (p := p) (n := n) (x := x) (y := fun _ => 0) (fun k a b => by rw [h k a b, Int.zero_emod]) rfl rfl rfl rfl k, mixP_0s, Int.zero_emod]
theorem ivT_ok {p a b c d : Int} (hp : Pp p) (h : dtP a b c d % p ≠ 0) :
    (a * (ivT p a b c d).1 + b * (ivT p a b c d).2.2.1) % p = 1 % p ∧ (a * (ivT p a b c d).2.1 + b * (ivT p a b c d).2.2.2) % p = 0 % p ∧
    (c * (ivT p a b c d).1 + d * (ivT p a b c d).2.2.1) % p = 0 % p ∧ (c * (ivT p a b c d).2.1 + d * (ivT p a b c d).2.2.2) % p = 1 % p := by
  have hb := hp.b
  have h1 := emod_b hp (dtP a b c d)
  have h2 := ivS_ok hp (show 0 < dtP a b c d % p by omega) h1.2
  rw [emod_mul_l] at h2
  obtain ⟨s, hs⟩ : ∃ s, ivS p (dtP a b c d % p) = s := ⟨_, rfl⟩
  have h3 : (1 : Int) % p = 1 := Int.emod_eq_of_lt (by omega) (by omega)
  unfold ivT
  dsimp only
  rw [hs] at h2 ⊢
  have m2 : ∀ u v x y : Int, (u * (x % p) + v * (y % p)) % p = (u * x + v * y) % p := by
    intro u v x y
    rw [Int.add_emod, emod_mul_r, emod_mul_r, ← Int.add_emod]
  rw [m2, m2, m2, m2, h3, Int.zero_emod]
  unfold dtP at h2
  refine ⟨?_, ?_, ?_, ?_⟩
  · rw [show a * (d * s) + b * ((0 - c) * s) = (a * d - b * c) * s by grind]
    exact h2
  · rw [show a * ((0 - b) * s) + b * (a * s) = 0 by grind, Int.zero_emod]
  · rw [show c * (d * s) + d * ((0 - c) * s) = 0 by grind, Int.zero_emod]
  · rw [show c * ((0 - b) * s) + d * (a * s) = (a * d - b * c) * s by grind]
    exact h2
/-- a form that becomes nought was nought -/
theorem mixP_nz_back {p : Int} {n : Nat} {a b c d : Int} {x : Int → Int} (hp : Pp p) (h : dtP a b c d % p ≠ 0) (hz : ∀ k : Int, 0 ≤ k → k ≤ n → mixP n a b c d x k % p = 0) : nz p n x := by
  obtain ⟨h1, h2, h3, h4⟩ := ivT_ok hp h
  intro k a1 b1
  rw [← mixP_undo h1 h2 h3 h4 k a1 b1]
  exact mixP_nz (fun j x y => hz j x y) k
/-- each form is made of itself -/
theorem gdT_self {p : Int} (hp : Pp p) (F : Fo) : gdT p F F ((1 : Nat) : Int) ((0 : Nat) : Int) ((0 : Nat) : Int) ((1 : Nat) : Int) = 1 := by
  have hb := hp.b
  refine gdT_of ?_ rfl (fun k a b => ?_)
  · show (1 * 1 - 0 * 0 : Int) % p ≠ 0
    rw [Int.emod_eq_of_lt (by omega) (by omega)]
    decide
  · show mixP F.1 1 0 0 1 F.2 k % p = _
    rw [mixP_one F.1 F.2 k a b]
theorem tri_self {p : Int} (hp : Pp p) (F : Fo) : 1 ≤ triP p F F 0 ∧ 0 ≤ triP p F F 1 := by
  have hb := hp.b
  exact ⟨(tri_s (Or.inl rfl) (by omega) (by omega) (by omega) (by omega) (by omega) (gdT_self hp F)).1 rfl, (tri_s (Or.inr rfl) (by omega) (by omega) (by omega) (by omega) (by omega) (gdT_self hp F)).2 rfl⟩
theorem tri_nought {p : Int} (hp : Pp p) {F G : Fo} (h : nz p F.1 F.2 ∧ ¬ nz p G.1 G.2 ∨ ¬ nz p F.1 F.2 ∧ nz p G.1 G.2) : triP p F G 1 = -1 := by
  refine tri_no (fun a b c d h1 => ?_)
  obtain ⟨h2, h3, h4⟩ := gdT_1 h1
  rcases h with ⟨g1, g2⟩ | ⟨g1, g2⟩
  · refine g2 (fun k u v => ?_)
    rw [← h4 k u (by omega)]
    exact mixP_nz g1 k
  · refine g1 (mixP_nz_back hp h2 (fun k u v => ?_))
    rw [h4 k u v]
    exact g2 k u (by omega)
/-- how many tables there are -/
def ctP (p : Nat) : Nat := cs (fun a => cs (fun b => cs (fun c => cs (fun d => if a * d % p = b * c % p then 0 else 1) p 0) p 0) p 0) p 0
theorem ct_11 : ctP 11 = (11 * 11 - 1) * (11 * 11 - 11) := by decide +kernel
theorem ct_13 : ctP 13 = (13 * 13 - 1) * (13 * 13 - 13) := by decide +kernel
theorem ct_17 : ctP 17 = (17 * 17 - 1) * (17 * 17 - 17) := by decide +kernel
theorem ct_19 : ctP 19 = (19 * 19 - 1) * (19 * 19 - 19) := by decide +kernel
theorem tri_all {p : Int} (hp : Pp p) {F : Fo} (h : ∀ a b c d k : Int, 0 ≤ k → k ≤ F.1 → mixP F.1 a b c d F.2 k % p = F.2 k % p) : triP p F F 0 = (p * p - 1) * (p * p - p) := by
  have hb := hp.b
  obtain ⟨q, rfl⟩ : ∃ q : Nat, p = q := ⟨p.toNat, by omega⟩
  have hD : ∀ (a b c : Nat) (d : Nat) (n : Int), trD q F F 0 a b c d n = .inl (n + ((if a * d % q = b * c % q then 0 else 1 : Nat) : Int)) := by
    intro a b c d n
    have e : dtP (a : Int) b c d % (q : Int) = 0 ↔ a * d % q = b * c % q := by
      unfold dtP
      rw [sub_mod0]
      have e1 : (a : Int) * d % (q : Int) = ((a * d % q : Nat) : Int) := by simp
      have e2 : (b : Int) * c % (q : Int) = ((b * c % q : Nat) : Int) := by simp
      rw [e1, e2]
      omega
    unfold trD
    by_cases h9 : a * d % q = b * c % q
    · rw [if_pos h9, if_neg]
      · simp
      · intro h8
        exact (gdT_1 h8).1 (e.mpr h9)
    · rw [if_neg h9, if_pos (gdT_of (fun h8 => h9 (e.mp h8)) rfl (fun k u v => h _ _ _ _ k u v)), if_pos rfl]
      simp
  have hC : ∀ (a b : Nat) (c : Nat) (n : Int), trC q F F 0 a b c n = .inl (n + ((cs (fun d => if a * d % q = b * c % q then 0 else 1) q 0 : Nat) : Int)) := by
    intro a b c n
    unfold trC
    rw [lpS_congr _ _ _ (fun j n _ _ => hD a b c j n), Int.toNat_natCast]
    exact lpS_add (fun d => if a * d % q = b * c % q then 0 else 1) q 0 n
  have hB : ∀ (a : Nat) (b : Nat) (n : Int), trB q F F 0 a b n = .inl (n + ((cs (fun c => cs (fun d => if a * d % q = b * c % q then 0 else 1) q 0) q 0 : Nat) : Int)) := by
    intro a b n
    unfold trB
    rw [lpS_congr _ _ _ (fun j n _ _ => hC a b j n), Int.toNat_natCast]
    exact lpS_add (fun c => cs (fun d => if a * d % q = b * c % q then 0 else 1) q 0) q 0 n
  have hA : ∀ (a : Nat) (n : Int), trA q F F 0 a n = .inl (n + ((cs (fun b => cs (fun c => cs (fun d => if a * d % q = b * c % q then 0 else 1) q 0) q 0) q 0 : Nat) : Int)) := by
    intro a n
    unfold trA
    rw [lpS_congr _ _ _ (fun j n _ _ => hB a j n), Int.toNat_natCast]
    exact lpS_add (fun b => cs (fun c => cs (fun d => if a * d % q = b * c % q then 0 else 1) q 0) q 0) q 0 n
  have h0 : triP q F F 0 = (ctP q : Int) := by
    unfold triP
    rw [lpS_congr _ _ _ (fun j n _ _ => hA j n), Int.toNat_natCast]
    have h9 := lpS_add (fun a => cs (fun b => cs (fun c => cs (fun d => if a * d % q = b * c % q then 0 else 1) q 0) q 0) q 0) q 0 0
    rw [h9]
    show (if (0 : Int) = 0 then (0 : Int) + _ else -1) = _
    rw [if_pos rfl, Int.zero_add]
    rfl
  rw [h0]
  have hq : q = 11 ∨ q = 13 ∨ q = 17 ∨ q = 19 := by
    rcases hp with h | h | h | h <;> omega
  rcases hq with rfl | rfl | rfl | rfl
  · rw [ct_11]; rfl
  · rw [ct_13]; rfl
  · rw [ct_17]; rfl
  · rw [ct_19]; rfl
def smP (p : Int) (F G : Fo) : Int := if F.1 = G.1 then triP p F G 1 else -1
section TSm
variable {sh : Sh} {I J : Nat → Int → Int} {m : Nat} {p : Int}
theorem t_sameOf (T : TL sh m) {W : Int → Int} (hw : I (m + 1) = W) (hW : WI W) {f g : Int} (hf : 0 ≤ f ∧ f < W 1) (hg : 0 ≤ g ∧ g < W 1) :
    ∃ I', s_X11_sameOf m f g (sh, I, J) = some (smP (W 0) (fF W f) (fF W g), (sh, I', J)) ∧ HK m I I' := by
  have hc := hW.c1
  have hp := hW.pp
  have hFf := hW.f hf.1 hf.2
  have hFg := hW.f hg.1 hg.2
  have f1 := fF_1 hFf
  have g1 := fF_1 hFg
  have e1 := t_degreeOf (I := I) (J := J) T hf.1 (show f < 16 by omega)
  have e2 := t_degreeOf (I := I) (J := J) T hg.1 (show g < 16 by omega)
  rw [hw, ← f1.1] at e1
  rw [hw, ← g1.1] at e2
  obtain ⟨F, hF⟩ : ∃ F, fF W f = F := ⟨_, rfl⟩
  obtain ⟨G, hG⟩ : ∃ G, fF W g = G := ⟨_, rfl⟩
  rw [hF] at e1 f1 ⊢
  rw [hG] at e2 g1 ⊢
  unfold s_X11_sameOf smP
  simp (disch := omega) only [t_ck T, bsome, e1, e2, w32_id (x := (F.1 : Int)), w32_id (x := (G.1 : Int))]
  by_cases hd : F.1 = G.1
  · rw [if_pos (show (F.1 : Int) = G.1 by omega), if_pos hd]
    obtain ⟨I1, e3, r3, k3⟩ := t_takesF (I := I) (J := J) T hw hW (r := 40) (by omega) hf.1 hf.2
    have hw1 : I1 (m + 1) = W := by rw [k3.w, hw]
    obtain ⟨I2, e4, r4, k4⟩ := t_takesF (I := I1) (J := J) T hw1 hW (r := 41) (by omega) hg.1 hg.2
    have hw2 : I2 (m + 1) = W := by rw [k4.w, hw1]
    rw [hF] at r3
    rw [hG] at r4
    have r3' := r3.keep k4 (by omega) (by omega) (by omega) (by omega)
    have e5 := t_isN (J := J) T hp (r := 40) (by omega) (by omega) r3'
    have e6 := t_isN (J := J) T hp (r := 41) (by omega) (by omega) r4
    have nF := nzI_nz (p := W 0) (c := F.2) (show -1 ≤ (F.1 : Int) by omega)
    have nG := nzI_nz (p := W 0) (c := G.2) (show -1 ≤ (G.1 : Int) by omega)
    have bF := (nzI_iff (W 0) F.2 ((F.1 : Int) + 1).toNat).1
    have bG := (nzI_iff (W 0) G.2 ((G.1 : Int) + 1).toNat).1
    simp (disch := omega) only [t_ck T, bsome, e3, e4, e5, e6]
    obtain ⟨I3, e7, k7⟩ := t_tried (J := J) T (p := W 0) (by rw [hw2]) hp (x := 1) (Or.inr rfl) (by omega) (by omega) r3' r4
    by_cases hn : nzI (W 0) F.2 ((F.1 : Int) + 1).toNat = nzI (W 0) G.2 ((G.1 : Int) + 1).toNat
    · rw [if_pos (by rw [hn]), e7, bsome]
      exact ⟨_, rfl, (k3.hk.trans k4.hk).trans k7⟩
    · rw [if_neg]
      · rw [tri_nought hp]
        · exact ⟨_, rfl, k3.hk.trans k4.hk⟩
        · rcases bF with b | b
          · rcases bG with b2 | b2
            · exact absurd (b.trans b2.symm) hn
            · exact Or.inr ⟨fun h => by rw [nF.mpr h] at b; exact absurd b (by decide), nG.mp b2⟩
          · rcases bG with b2 | b2
            · exact Or.inl ⟨nF.mp b, fun h => by rw [nG.mpr h] at b2; exact absurd b2 (by decide)⟩
            · exact absurd (b.trans b2.symm) hn
      · rw [w32_id (by omega) (by omega), w32_id (by omega) (by omega)]
        exact hn
  · rw [if_neg (show ¬ (F.1 : Int) = G.1 by omega), if_neg hd]
    exact ⟨_, rfl, HK.refl⟩
theorem t_same (T : TL sh m) (hW : WI (I (m + 1))) {f g : Int} (hf : i32 f) (hg : i32 g) :
    ((0 ≤ f ∧ f < I (m + 1) 1) → (0 ≤ g ∧ g < I (m + 1) 1) → QG (s_X11_same m f g (sh, I, J)) sh I J m (smP (I (m + 1) 0) (fF (I (m + 1)) f) (fF (I (m + 1)) g))) ∧
    (¬((0 ≤ f ∧ f < I (m + 1) 1) ∧ (0 ≤ g ∧ g < I (m + 1) 1)) → QB (s_X11_same m f g (sh, I, J)) sh I J m 1) := by
  obtain ⟨W, hw⟩ : ∃ W, I (m + 1) = W := ⟨_, rfl⟩
  rw [hw] at hW ⊢
  have hc1 := hW.c1
  have h0 : thr I m 0 (m + 1) = W := by rw [thr_n (by omega), hw]
  have e1 := t_noF (I := thr I m 0) (J := J) T (by rw [h0]; exact hc1) hf
  have e1' := t_noF (I := thr I m 0) (J := J) T (by rw [h0]; exact hc1) hg
  rw [h0] at e1 e1'
  refine ⟨fun h g => ?_, fun h => ?_⟩
  · rw [if_pos h] at e1
    rw [if_pos g] at e1'
    obtain ⟨I2, e2, k2⟩ := t_sameOf (I := thr I m 0) (J := J) T h0 hW h g
    unfold s_X11_same
    simp (disch := omega) only [t_thr T, bsome, t_ck T, e1, e1', w32_id, if_pos, ifT]
    unfold s_X11_same_b27
    simp (disch := omega) only [t_ck T, bsome, t_if0, w32_id (x := 0), if_pos, e2, ifT]
    exact ⟨_, _, rfl, k2, HJ.refl⟩
  · have key : s_X11_same m f g (sh, I, J) = s_X11_same_b22 m f g m (sh, thr I m 0, J) := by
      unfold s_X11_same
      simp (disch := omega) only [t_thr T, bsome, t_ck T, e1, e1']
      by_cases h1 : 0 ≤ f ∧ f < W 1
      · rw [if_pos h1, if_neg (fun h2 => h ⟨h1, h2⟩)]
        simp (disch := omega) only [w32_id, if_pos, if_neg, ifT]
      · rw [if_neg h1]
        simp (disch := omega) only [w32_id, if_neg, ifT]
    rw [key]
    unfold s_X11_same_b22 s_X11_same_b27
    simp (disch := omega) only [t_ck T, bsome, t_if1 T, w32_id, if_neg, thr_thr, ifT]
    exact ⟨_, _, _, rfl, HK.refl, HJ.refl⟩
theorem t_allTables (T : TL sh m) (hI : I (m + 1) 0 = p) : s_X11_allTables m (sh, I, J) = some ((p * p - 1) * (p * p - p), (sh, I, J)) := by
  unfold s_X11_allTables
  simp only [t_ck T, bsome, t_p T, hI]
theorem t_keeps (T : TL sh m) {W : Int → Int} (hw : I (m + 1) = W) (hW : WI W) {f : Int} (hf : 0 ≤ f ∧ f < W 1) :
    ∃ I', s_X11_keeps m f (sh, I, J) = some (triP (W 0) (fF W f) (fF W f) 0, (sh, I', J)) ∧ HK m I I' := by
  have hc := hW.c1
  have hp := hW.pp
  have f1 := fF_1 (hW.f hf.1 hf.2)
  obtain ⟨I1, e3, r3, k3⟩ := t_takesF (I := I) (J := J) T hw hW (r := 40) (by omega) hf.1 hf.2
  have hw1 : I1 (m + 1) = W := by rw [k3.w, hw]
  obtain ⟨I2, e4, r4, k4⟩ := t_takesF (I := I1) (J := J) T hw1 hW (r := 41) (by omega) hf.1 hf.2
  have hw2 : I2 (m + 1) = W := by rw [k4.w, hw1]
  obtain ⟨F, hF⟩ : ∃ F, fF W f = F := ⟨_, rfl⟩
  rw [hF] at r3 r4 f1 ⊢
  have r3' := r3.keep k4 (by omega) (by omega) (by omega) (by omega)
  have e5 := t_isN (J := J) T hp (r := 40) (by omega) (by omega) r3'
  have nF := nzI_nz (p := W 0) (c := F.2) (show -1 ≤ (F.1 : Int) by omega)
  have bF := (nzI_iff (W 0) F.2 ((F.1 : Int) + 1).toNat).1
  have e6 := t_allTables (I := I2) (J := J) T (p := W 0) (by rw [hw2])
  obtain ⟨I3, e7, k7⟩ := t_tried (J := J) T (p := W 0) (by rw [hw2]) hp (x := 0) (Or.inl rfl) (by omega) (by omega) r3' r4
  unfold s_X11_keeps
  simp (disch := omega) only [bsome, t_ck T, t_gI T, t_pI T, t_gJ T, t_pJ T, tR_deg T, tA_deg T, tU_deg T, e3, e4, e5, r3'.1, e6, e7]
  rcases bF with b | b
  · rw [b, if_pos (show w32 0 = 0 from rfl), w32_id (by omega) (by omega)]
    by_cases h0 : (F.1 : Int) = 0
    · rw [if_pos h0, tri_all hp]
      · exact ⟨_, rfl, k3.hk.trans k4.hk⟩
      · intro a b c d k u v
        have hk : k = 0 := by omega
        rw [show F.1 = 0 by omega, mixP_0, hk]
        rfl
    · rw [if_neg h0]
      exact ⟨_, rfl, (k3.hk.trans k4.hk).trans k7⟩
  · rw [b, if_neg (show ¬ w32 1 = 0 by decide), tri_all hp]
    · exact ⟨_, rfl, k3.hk.trans k4.hk⟩
    · intro a b2 c d k u v
      rw [mixP_nz (nF.mp b) k, nF.mp b k u v]
theorem t_keep (T : TL sh m) (hW : WI (I (m + 1))) {f : Int} (hf : i32 f) :
    ((0 ≤ f ∧ f < I (m + 1) 1) → QG (s_X11_keep m f (sh, I, J)) sh I J m (triP (I (m + 1) 0) (fF (I (m + 1)) f) (fF (I (m + 1)) f) 0)) ∧
    (¬(0 ≤ f ∧ f < I (m + 1) 1) → QB (s_X11_keep m f (sh, I, J)) sh I J m 1) := by
  obtain ⟨W, hw⟩ : ∃ W, I (m + 1) = W := ⟨_, rfl⟩
  rw [hw] at hW ⊢
  have hc := hW.c1
  have h0 : thr I m 0 (m + 1) = W := by rw [thr_n (by omega), hw]
  have e1 := t_noF (I := thr I m 0) (J := J) T (by rw [h0]; exact hc) hf
  rw [h0] at e1
  refine ⟨fun h => ?_, fun h => ?_⟩
  · rw [if_pos h] at e1
    obtain ⟨I2, e2, k2⟩ := t_keeps (I := thr I m 0) (J := J) T h0 hW h
    unfold s_X11_keep
    simp (disch := omega) only [t_thr T, bsome, t_ck T, e1, t_if0, w32_id (x := 0), if_pos, e2, ifT]
    exact ⟨_, _, rfl, k2, HJ.refl⟩
  · rw [if_neg h] at e1
    unfold s_X11_keep
    simp (disch := omega) only [t_thr T, bsome, t_ck T, e1, t_if1 T, w32_id, if_neg, thr_thr, ifT]
    exact ⟨_, _, _, rfl, HK.refl, HJ.refl⟩
/-- at most so many -/
theorem lpS_le {body : Nat → Int → Int ⊕ Int} (N : Nat) (h : ∀ (i : Nat) (n : Int), ∃ n' : Int, n' ≤ n + (N : Int) ∧ body i n = .inl n') : ∀ (k i : Nat) (n : Int), ∃ n' : Int, n' ≤ n + ((k * N : Nat) : Int) ∧ lpS body k i n = .inl n'
  | 0, _, n => ⟨n, by omega, rfl⟩
  | k + 1, i, n => by
    obtain ⟨n1, h1, h2⟩ := h i n
    obtain ⟨n2, h3, h4⟩ := lpS_le N h k (i + 1) n1
    refine ⟨n2, ?_, ?_⟩
    · have : (k + 1) * N = k * N + N := Nat.succ_mul k N
      omega
    · show (body i n).elim _ _ = _
      rw [h2]
      exact h4
theorem tri_le {p : Int} (hp : Pp p) (F G : Fo) : triP p F G 0 ≤ 130321 := by
  have hb := hp.b
  have hD : ∀ (a b c : Nat) (d : Nat) (n : Int), ∃ n', n' ≤ n + ((1 : Nat) : Int) ∧ trD p F G 0 a b c d n = .inl n' := by
    intro a b c d n
    unfold trD
    split
    · exact ⟨n + 1, by omega, if_pos rfl⟩
    · exact ⟨n, by omega, rfl⟩
  have hC := fun a b (c : Nat) (n : Int) => lpS_le 1 (hD a b c) p.toNat 0 n
  have hB := fun a (b : Nat) (n : Int) => lpS_le _ (fun c n => hC a b c n) p.toNat 0 n
  have hA := fun (a : Nat) (n : Int) => lpS_le _ (fun b n => hB a b n) p.toNat 0 n
  obtain ⟨n', h1, h2⟩ := lpS_le _ (fun a n => hA a n) p.toNat 0 0
  have h3 : triP p F G 0 = n' := by
    unfold triP
    have h4 : lpS (trA p F G 0) p.toNat 0 0 = .inl n' := h2
    rw [h4]
    rfl
  rw [h3]
  have h5 : p.toNat ≤ 19 := by omega
  have h6 : p.toNat * (p.toNat * (p.toNat * (p.toNat * 1))) ≤ 19 * (19 * (19 * (19 * 1))) := Nat.mul_le_mul h5 (Nat.mul_le_mul h5 (Nat.mul_le_mul h5 (Nat.mul_le_mul h5 (Nat.le_refl 1))))
  omega
def obP (p : Int) (F : Fo) : Int := ((p * p - 1) * (p * p - p)).tdiv (triP p F F 0)
theorem t_orbit (T : TL sh m) (hW : WI (I (m + 1))) {f : Int} (hf : i32 f) :
    ((0 ≤ f ∧ f < I (m + 1) 1) → QG (s_X11_orbit m f (sh, I, J)) sh I J m (obP (I (m + 1) 0) (fF (I (m + 1)) f))) ∧
    (¬(0 ≤ f ∧ f < I (m + 1) 1) → QB (s_X11_orbit m f (sh, I, J)) sh I J m 1) := by
  obtain ⟨W, hw⟩ : ∃ W, I (m + 1) = W := ⟨_, rfl⟩
  rw [hw] at hW ⊢
  have hc := hW.c1
  have hp := hW.pp
  have h0 : thr I m 0 (m + 1) = W := by rw [thr_n (by omega), hw]
  have e1 := t_noF (I := thr I m 0) (J := J) T (by rw [h0]; exact hc) hf
  rw [h0] at e1
  refine ⟨fun h => ?_, fun h => ?_⟩
  · rw [if_pos h] at e1
    obtain ⟨I2, e2, k2⟩ := t_keeps (I := thr I m 0) (J := J) T h0 hW h
    have e3 := t_allTables (I := thr I m 0) (J := J) T (p := W 0) (by rw [h0])
    have t1 := (tri_self hp (fF W f)).1
    have t2 := tri_le hp (fF W f) (fF W f)
    have hall : 0 ≤ (W 0 * W 0 - 1) * (W 0 * W 0 - W 0) ∧ (W 0 * W 0 - 1) * (W 0 * W 0 - W 0) < 2147483648 := by
      rcases hp with h | h | h | h <;> rw [h] <;> decide
    have e4 : dvI ((W 0 * W 0 - 1) * (W 0 * W 0 - W 0)) (triP (W 0) (fF W f) (fF W f) 0) = some (obP (W 0) (fF W f)) := by
      unfold dvI
      rw [w32_id (x := triP (W 0) (fF W f) (fF W f) 0) (by omega) (by omega), if_neg (by omega), w32_id (by omega) (by omega)]
      rfl
    unfold s_X11_orbit
    simp (disch := omega) only [t_thr T, bsome, t_ck T, e1, t_if0, w32_id (x := 0), if_pos, e2, e3, e4, ifT]
    exact ⟨_, _, rfl, k2, HJ.refl⟩
  · rw [if_neg h] at e1
    unfold s_X11_orbit
    simp (disch := omega) only [t_thr T, bsome, t_ck T, e1, t_if1 T, w32_id, if_neg, thr_thr, ifT]
    exact ⟨_, _, _, rfl, HK.refl, HJ.refl⟩
def knP (W : Int → Int) (f : Int) (i : Nat) : Int := if smP (W 0) (fF W i) (fF W f) < 0 then 1 else 0
theorem sm_bd {p : Int} (hp : Pp p) (F G : Fo) : -1 ≤ smP p F G ∧ smP p F G < 2147483648 := by
  have hb := hp.b
  unfold smP
  split
  · unfold triP
    have hr : ∀ a b c d : Nat, ∀ n : Int, (a : Int) < 19 → (b : Int) < 19 → (c : Int) < 19 → (d : Int) < 19 → trD p F G 1 a b c d n = .inl n ∨ ∃ e, 0 ≤ e ∧ e < 2147483648 ∧ trD p F G 1 a b c d n = .inr e := by
      intro a b c d n ha hb hc hd
      unfold trD
      split
      · exact Or.inr ⟨_, by omega, by omega, if_neg (by decide)⟩
      · exact Or.inl rfl
    have lift : ∀ (body : Nat → Int → Int ⊕ Int), (∀ (i : Nat) (n : Int), (i : Int) < 19 → body i n = .inl n ∨ ∃ e, 0 ≤ e ∧ e < 2147483648 ∧ body i n = .inr e) → ∀ (k i : Nat) (n : Int), i + k ≤ 19 → lpS body k i n = .inl n ∨ ∃ e, 0 ≤ e ∧ e < 2147483648 ∧ lpS body k i n = .inr e := by
      intro body hb k
      induction k with
      | zero => intro i n _; exact Or.inl rfl
      | succ k ih =>
        intro i n hik
        show (body i n).elim _ _ = _ ∨ ∃ e, 0 ≤ e ∧ e < 2147483648 ∧ (body i n).elim _ _ = _
        rcases hb i n (by omega) with h | ⟨e, h1, h2, h3⟩
        · rw [h]
          exact ih (i + 1) n (by omega)
        · rw [h3]
          exact Or.inr ⟨e, h1, h2, rfl⟩
    have hk : 0 + p.toNat ≤ 19 := by omega
    rcases lift (trA p F G 1) (fun a n ha => lift _ (fun b n hb => lift _ (fun c n hc => lift _ (fun d n hd => hr a b c d n ha hb hc hd) _ _ _ hk) _ _ _ hk) _ _ _ hk) p.toNat 0 0 hk with h | ⟨e, h1, h2, h3⟩
    · rw [h]
      show -1 ≤ (if (1 : Int) = 0 then (0 : Int) else -1) ∧ (if (1 : Int) = 0 then (0 : Int) else -1) < 2147483648
      decide
    · rw [h3]
      show -1 ≤ e ∧ e < 2147483648
      omega
  · omega
theorem t_kind (T : TL sh m) (hW : WI (I (m + 1))) {f : Int} (hf : i32 f) :
    ((0 ≤ f ∧ f < I (m + 1) 1) → QG (s_X11_kind m f (sh, I, J)) sh I J m (fst0 (knP (I (m + 1)) f) (f.toNat + 1) 0)) ∧
    (¬(0 ≤ f ∧ f < I (m + 1) 1) → QB (s_X11_kind m f (sh, I, J)) sh I J m 1) := by
  obtain ⟨W, hw⟩ : ∃ W, I (m + 1) = W := ⟨_, rfl⟩
  rw [hw] at hW ⊢
  have hc := hW.c1
  have hp := hW.pp
  have h0 : thr I m 0 (m + 1) = W := by rw [thr_n (by omega), hw]
  have e1 := t_noF (I := thr I m 0) (J := J) T (by rw [h0]; exact hc) hf
  rw [h0] at e1
  refine ⟨fun h => ?_, fun h => ?_⟩
  · rw [if_pos h] at e1
    unfold s_X11_kind
    simp (disch := omega) only [t_thr T, bsome, t_ck T, e1, t_if0, w32_id (x := 0), if_pos, ifT]
    have key : ∀ (k i : Nat) (I1 : Nat → Int → Int), i + k = f.toNat + 1 → 1 ≤ k → HK m (thr I m 0) I1 → ∃ I', s_X11_kind_l22 m f i (sh, I1, J) = some (fst0 (knP W f) k i, (sh, I', J)) ∧ HK m (thr I m 0) I' := by
      intro k
      induction k with
      | zero => intro i I1 _ h9; omega
      | succ k ih =>
        intro i I1 hi _ k1
        have hw1 : I1 (m + 1) = W := by rw [k1.w, h0]
        obtain ⟨I2, e2, k2⟩ := t_sameOf (I := I1) (J := J) T hw1 hW (f := i) (by omega) h
        have hb := sm_bd hp (fF W i) (fF W f)
        rw [e_X11_kind_l22]
        unfold s_X11_kind_l22_st
        simp only [t_ck T, bsome, e2]
        rw [w32_id (by omega) hb.2]
        show ∃ I', _ = some (if knP W f i = 0 then (i : Int) else fst0 (knP W f) k (i + 1), _) ∧ _
        unfold knP
        by_cases h9 : smP (W 0) (fF W i) (fF W f) < 0
        · rw [if_neg (by omega), if_pos h9, if_neg (by decide)]
          refine ih (i + 1) I2 (by omega) ?_ (k1.trans k2)
          by_cases hk : k = 0
          · exfalso
            have : (i : Int) = f := by omega
            rw [this] at h9
            unfold smP at h9
            rw [if_pos rfl] at h9
            have := (tri_self hp (fF W f)).2
            omega
          · omega
        · rw [if_pos (by omega), if_neg h9, if_pos rfl]
          exact ⟨I2, rfl, k1.trans k2⟩
    obtain ⟨I', h1, h2⟩ := key (f.toNat + 1) 0 (thr I m 0) (by omega) (by omega) HK.refl
    exact ⟨I', J, h1, h2, HJ.refl⟩
  · rw [if_neg h] at e1
    unfold s_X11_kind
    simp (disch := omega) only [t_thr T, bsome, t_ck T, e1, t_if1 T, w32_id, if_neg, thr_thr, ifT]
    exact ⟨_, _, _, rfl, HK.refl, HJ.refl⟩
end TSm
