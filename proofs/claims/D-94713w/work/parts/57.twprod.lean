/-! the twin: products, differentiated rows, overlaps -/
set_option maxRecDepth 100000
def mulP (n : Nat) (x y : Int → Int) : Int → Int := fun k => sm (n + 1) (fun i => x i * y (k - i))
def cl (d : Int) (c : Int → Int) : Int → Int := fun k => if 0 ≤ k ∧ k ≤ d then c k else 0
theorem Sup.cl (d : Int) (c : Int → Int) : Sup d (cl d c) := fun k hk => if_neg (by omega)
theorem cl_in {d : Int} {c : Int → Int} {k : Int} (h0 : 0 ≤ k) (h1 : k ≤ d) : cl d c k = c k := if_pos ⟨h0, h1⟩
theorem RW.cl {I : Nat → Int → Int} {m : Nat} {p r d : Int} {c : Int → Int} (h : RW I m p r d c) : RW I m p r d (cl d c) := h.congr (fun k a b => by rw [cl_in a b])
def prd : Nat → (Nat → Int) → Int
  | 0, _ => 1
  | n + 1, f => prd n f * f n
/-- what differentiating so often does to the k-th number of a row of degree d -/
def dfP (d k bx bz : Int) : Int := prd bx.toNat (fun i => d - k - i) * prd bz.toNat (fun i => k - i)
def difP (d : Int) (x : Int → Int) (bx bz : Int) : Int → Int := cl (d - bx - bz) (fun k => x (k + bz) * dfP d (k + bz) bx bz)
/-- n over k, as it is reckoned -/
def ovS (n k : Int) : Nat → Int
  | 0 => 1
  | i + 1 => (ovS n k i * (n - k + (i + 1))).tdiv (i + 1)
def ovN (n k : Int) : Int := ovS n k k.toNat
def sgI (i : Int) : Int := if i % 2 = 0 then 1 else -1
def ovP (n q : Int) (k : Nat) (x y : Int → Int) : Int → Int := fun j => sm (k + 1) (fun i => sgI i * ovN k i * mulP (n - k).toNat (difP n x (k - i) i) (difP q y i (k - i)) j)
def ovC (n k i : Nat) : Bool := decide (i ≤ k → k ≤ n → (0 ≤ ovS n k i ∧ ovS n k i < 1000) ∧ (0 ≤ ovS n k i * ((n : Int) - k + (i + 1)) ∧ ovS n k i * ((n : Int) - k + (i + 1)) < 20000))
theorem ovC_all : ((List.range 9).all fun n => (List.range 9).all fun k => (List.range 9).all fun i => ovC n k i) = true := by decide +kernel
theorem ovS_b {n k i : Nat} (hn : n < 9) (hk : k ≤ n) (hi : i ≤ k) : (0 ≤ ovS n k i ∧ ovS n k i < 1000) ∧ (0 ≤ ovS n k i * ((n : Int) - k + (i + 1)) ∧ ovS n k i * ((n : Int) - k + (i + 1)) < 20000) := by
  have h := List.all_eq_true.mp (List.all_eq_true.mp (List.all_eq_true.mp ovC_all n (List.mem_range.mpr hn)) k (List.mem_range.mpr (by omega))) i (List.mem_range.mpr (by omega))
  exact of_decide_eq_true h hi hk
section TP
variable {sh : Sh} {I J : Nat → Int → Int} {m : Nat} {p : Int}
theorem t_mul35 (T : TL sh m) (hI : I (m + 1) 0 = p) (hp : Pp p) {r q to : Int} {n k i : Nat} {x y A : Int → Int} (hr : 0 ≤ r ∧ r < 48 ∧ r ≠ to) (hq : 0 ≤ q ∧ q < 48 ∧ q ≠ to) (hto : 0 ≤ to ∧ to < 48) (hn : n + k ≤ 40) (hi : i ≤ n) (hx : RW I m p r n x) (hy : RW I m p q k y) (hs : Sup k y) (hA : RW I m p to (n + k) A) :
    ∃ I', s_X11_multiplies_l35 m r q to i 0 (sh, I, J) = some (.inl ((i : Int) + 1, (sh, I', J))) ∧ RW I' m p to (n + k) (fun j => A j + x i * y (j - i)) ∧ RF m (fun q => q = to) I I' := by
  unfold s_X11_multiplies_l35
  refine ex_g (fun I' => Sum.inl ((i : Int) + 1, ((sh, I', J) : Me))) (whileO_for (k + 1)
    (fun j s => ∃ I', s = ((j : Int), ((sh, I', J) : Me)) ∧ I' (m + 3) to = n + k ∧ (∀ l : Int, 0 ≤ l → l ≤ n + k → i ≤ l → l < i + j → I' (m + 4) (41 * to + l) = (A l + x i * y (l - i)) % p) ∧ (∀ l : Int, 0 ≤ l → l ≤ n + k → (l < i ∨ i + j ≤ l) → I' (m + 4) (41 * to + l) = A l % p) ∧ RF m (fun q => q = to) I I')
    _ ?_ ?_ _ ?_)
  · rintro j s hj ⟨I3, rfl, a1, a2, a3, a4⟩
    have b1 := a3 (i + j) (by omega) (by omega) (by omega)
    have hx3 := hx.keep a4 hr.2.2 hr.1 hr.2.1 (by omega)
    have hy3 := hy.keep a4 hq.2.2 hq.1 hq.2.1 (by omega)
    have b2 := hx3.2 i (by omega) (by omega)
    have b3 := hy3.2 j (by omega) (by omega)
    obtain ⟨I4, e2, k1, k2, k3, k4⟩ := t_putR (I := I3) (J := J) T hto.1 hto.2 (k := i + j) (v := (A (i + j) + x i * y j) % p) (by omega) (by omega)
    refine ⟨((j : Int) + 1, (sh, I4, J)), ?_, I4, by simp, by rw [k2]; exact a1, fun l g1 g2 g3 g4 => ?_, fun l g1 g2 g3 => ?_, a4.trans k4⟩
    · unfold s_X11_multiplies_l35_st
      dsimp only
      simp (disch := omega) only [bsome, t_ck T, t_gI T, t_pI T, t_gJ T, t_pJ T, tR_deg T, tA_deg T, tU_deg T, hy3.1, w32_id, if_neg, t_of T, b1, b2, b3, t_timesM T (a4.pw hI) hp, t_plusM T (a4.pw hI) hp, e2]
    · by_cases e : l = i + j
      · rw [e, k1, show (i : Int) + j - i = j by omega]
      · rw [k3 _ (by omega)]
        exact a2 l g1 g2 g3 (by omega)
    · rw [k3 _ (by omega)]
      exact a3 l g1 g2 (by omega)
  · rintro s ⟨I3, rfl, a1, a2, a3, a4⟩
    have hy3 := hy.keep a4 hq.2.2 hq.1 hq.2.1 (by omega)
    unfold s_X11_multiplies_l35_st
    dsimp only
    simp (disch := omega) only [bsome, t_ck T, t_gI T, t_pI T, t_gJ T, t_pJ T, tR_deg T, tA_deg T, tU_deg T, hy3.1, w32_id, if_pos]
    refine ⟨_, rfl, I3, rfl, ⟨a1, fun l g1 g2 => ?_⟩, a4⟩
    by_cases h : (i : Int) ≤ l ∧ l < i + (k + 1)
    · exact a2 l g1 g2 h.1 (by omega)
    · rw [a3 l g1 g2 (by omega)]
      dsimp only
      rw [hs (l - i) (by omega), Int.mul_zero, Int.add_zero]
  · exact ⟨I, rfl, hA.1, fun l _ _ _ _ => by omega, fun l g1 g2 _ => hA.2 l g1 g2, RF.refl⟩
theorem t_multiplies (T : TL sh m) (hI : I (m + 1) 0 = p) (hp : Pp p) {r q to : Int} {n k : Nat} {x y : Int → Int} (hr : 0 ≤ r ∧ r < 48 ∧ r ≠ to) (hq : 0 ≤ q ∧ q < 48 ∧ q ≠ to) (hto : 0 ≤ to ∧ to < 48) (hn : n + k ≤ 40) (hx : RW I m p r n x) (hy : RW I m p q k y) (hs : Sup k y) :
    ∃ I', s_X11_multiplies m r q to (sh, I, J) = some (sh, I', J) ∧ RW I' m p to (n + k) (mulP n x y) ∧ RF m (fun q => q = to) I I' := by
  unfold s_X11_multiplies
  obtain ⟨I1, c1, c2, c3⟩ := t_clearsR (I := I) (J := J) (p := p) T hto.1 hto.2 (d := n + k) (by omega) (by omega)
  simp (disch := omega) only [bsome, t_ck T, t_gI T, t_pI T, t_gJ T, t_pJ T, tR_deg T, tA_deg T, tU_deg T, hx.1, hy.1, c1]
  unfold s_X11_multiplies_l21
  refine ex_g (fun I' => ((sh, I', J) : Me)) (whileO_for (n + 1)
    (fun i s => ∃ I', s = ((i : Int), ((sh, I', J) : Me)) ∧ RW I' m p to (n + k) (fun j => sm i (fun l => x l * y (j - l))) ∧ RF m (fun q => q = to) I I')
    _ ?_ ?_ _ ?_)
  · rintro i s hi ⟨I3, rfl, a1, a2⟩
    have hx3 := hx.keep a2 hr.2.2 hr.1 hr.2.1 (by omega)
    have hy3 := hy.keep a2 hq.2.2 hq.1 hq.2.1 (by omega)
    obtain ⟨I4, e1, e2, e3⟩ := t_mul35 (J := J) T (a2.pw hI) hp hr hq hto hn (show i ≤ n by omega) hx3 hy3 hs a1
    refine ⟨((i : Int) + 1, (sh, I4, J)), ?_, I4, by simp, e2, a2.trans e3⟩
    unfold s_X11_multiplies_l21_st
    dsimp only
    simp (disch := omega) only [bsome, t_ck T, t_gI T, t_pI T, t_gJ T, t_pJ T, tR_deg T, tA_deg T, tU_deg T, hx3.1, w32_id, if_neg, e1]
  · rintro s ⟨I3, rfl, a1, a2⟩
    have hx3 := hx.keep a2 hr.2.2 hr.1 hr.2.1 (by omega)
    unfold s_X11_multiplies_l21_st
    dsimp only
    simp (disch := omega) only [bsome, t_ck T, t_gI T, t_pI T, t_gJ T, t_pJ T, tR_deg T, tA_deg T, tU_deg T, hx3.1, w32_id, if_pos]
    exact ⟨_, rfl, I3, rfl, a1, a2⟩
  · exact ⟨I1, rfl, c2, c3⟩
theorem t_differs (T : TL sh m) (hI : I (m + 1) 0 = p) (hp : Pp p) {d k bx bz : Int} (hd : 0 ≤ d ∧ d < 1000) (hk : 0 ≤ k ∧ k < 1000) (hx : 0 ≤ bx ∧ bx < 1000) (hy : 0 ≤ bz ∧ bz < 1000) :
    s_X11_differs m d k bx bz (sh, I, J) = some (dfP d k bx bz % p, (sh, I, J)) := by
  have hb := hp.b
  unfold s_X11_differs s_X11_differs_l6
  have h2 : s_X11_differs_l40 m k bz (prd bx.toNat (fun i => d - k - i) % p) 0 (sh, I, J) = some (dfP d k bx bz % p, (sh, I, J)) := by
    unfold s_X11_differs_l40
    refine whileO_tr bz.toNat (fun i => (prd bx.toNat (fun i => d - k - i) * prd i (fun i => k - i) % p, (i : Int), (sh, I, J))) ?_ (fun i hi => ?_) ?_
    · unfold prd
      rw [Int.mul_one]
      rfl
    · unfold s_X11_differs_l40_st
      dsimp only
      simp (disch := omega) only [t_ck T, bsome, w32_id, if_neg, t_mod T hI hp, t_timesM T hI hp]
      rw [Int.mul_assoc]
      rfl
    · unfold s_X11_differs_l40_st
      dsimp only
      simp (disch := omega) only [w32_id, if_pos]
      rfl
  refine whileO_tr bx.toNat (fun i => (prd i (fun i => d - k - i) % p, (i : Int), (sh, I, J))) ?_ (fun i hi => ?_) ?_
  · unfold prd
    rw [Int.emod_eq_of_lt (by omega) (by omega)]
    rfl
  · unfold s_X11_differs_l6_st
    dsimp only
    simp (disch := omega) only [t_ck T, bsome, w32_id, if_neg, t_mod T hI hp, t_timesM T hI hp]
    rfl
  · unfold s_X11_differs_l6_st
    dsimp only
    simp (disch := omega) only [w32_id, if_pos, h2]
    rfl
end TP
