/-! the twin: copies, compares, products -/
set_option maxRecDepth 100000
/-- n numbers written from b on -/
def wr (f : Int → Int) (b : Int) (n : Nat) (new : Nat → Int) : Int → Int := fun j => if b ≤ j ∧ j < b + n then new (j - b).toNat else f j
theorem wr_0 (f : Int → Int) (b : Int) (new : Nat → Int) : wr f b 0 new = f := by
  funext j
  exact if_neg (by omega)
theorem wr_step (f : Int → Int) (b : Int) (n : Nat) (new : Nat → Int) : upz (wr f b n new) (b + n) (new n) = wr f b (n + 1) new := by
  funext j
  unfold upz wr
  by_cases h : j = b + n
  · rw [if_pos h, if_pos (by omega)]
    congr 1
    omega
  · rw [if_neg h]
    by_cases h2 : b ≤ j ∧ j < b + n
    · rw [if_pos h2, if_pos (by omega)]
    · rw [if_neg h2, if_neg (by omega)]
theorem wr_in {f : Int → Int} {b : Int} {n : Nat} {new : Nat → Int} {j : Int} (h0 : b ≤ j) (h1 : j < b + n) : wr f b n new j = new (j - b).toNat := if_pos ⟨h0, h1⟩
theorem wr_out {f : Int → Int} {b : Int} {n : Nat} {new : Nat → Int} {j : Int} (h : j < b ∨ b + n ≤ j) : wr f b n new j = f j := if_neg (by omega)
/-- a loop that writes n numbers of an array, one by one -/
theorem arr_loop {ρ : Type} {f : Int × Me → Option ((Int × Me) ⊕ ρ)} {sh : Sh} {I J : Nat → Int → Int} (a : Nat) (b lo : Int) (n : Nat) (new : Nat → Int) {r : ρ}
    (step : ∀ i : Nat, i < n → f (lo + i, (sh, up1 I a (wr (I a) b i new), J)) = some (.inl (lo + i + 1, (sh, up1 I a (upz (wr (I a) b i new) (b + i) (new i)), J))))
    (stop : f (lo + n, (sh, up1 I a (wr (I a) b n new), J)) = some (.inr r)) : whileO f (lo, (sh, I, J)) = some r := by
  refine whileO_tr n (fun i => (lo + i, (sh, up1 I a (wr (I a) b i new), J))) ?_ (fun i hi => ?_) stop
  · rw [wr_0, up1_id]
    simp
  · rw [step i hi, wr_step]
    simp [Int.add_assoc]
/-- rows' facts out of written numbers -/
theorem row_wr {I : Nat → Int → Int} {m : Nat} {p r d : Int} {D : Int → Int} {new : Nat → Int} {c : Int → Int} {n : Nat} (hr : 0 ≤ r ∧ r < 48) (hn : n ≤ 41) (hd : D r = d) (hdn : d < n) (hD : ∀ q, q ≠ r → D q = I (m + 3) q) (hc : ∀ k : Int, 0 ≤ k → k ≤ d → new k.toNat = c k % p) :
    RW (up1 (up1 I (m + 3) D) (m + 4) (wr (I (m + 4)) (41 * r) n new)) m p r d c ∧ RF m (fun q => q = r) I (up1 (up1 I (m + 3) D) (m + 4) (wr (I (m + 4)) (41 * r) n new)) := by
  refine ⟨⟨?_, fun k a b => ?_⟩, fun a x y => ?_, fun q x y z => ⟨?_, fun k a b => ?_⟩⟩
  · rw [up1_n _ _ (by omega), up1_s, hd]
  · rw [up1_s, wr_in (by omega) (by omega), show 41 * r + k - 41 * r = k by omega]
    exact hc k a b
  · rw [up1_n _ _ y, up1_n _ _ x]
  · rw [up1_n _ _ (by omega), up1_s, hD q z]
  · rw [up1_s, wr_out (by omega)]
section TC
variable {sh : Sh} {I J : Nat → Int → Int} {m : Nat} {p : Int}
theorem t_copies (T : TL sh m) {r to d : Int} {c : Int → Int} (hr : 0 ≤ r ∧ r < 48) (hto : 0 ≤ to ∧ to < 48 ∧ to ≠ r) (hd : -1 ≤ d ∧ d ≤ 40) (hc : RW I m p r d c) : ∃ I', s_X11_copies m r to (sh, I, J) = some (sh, I', J) ∧ RW I' m p to d c ∧ RF m (fun q => q = to) I I' := by
  unfold s_X11_copies
  simp (disch := omega) only [bsome, t_ck T, t_gI T, t_pI T, t_gJ T, t_pJ T, tR_deg T, tA_deg T, tU_deg T, hc.1]
  unfold s_X11_copies_l14
  have h := arr_loop (f := fun s : Int × Me => s_X11_copies_l14_st m r to s.1 s.2) (sh := sh) (I := up1 I (m + 3) (upz (I (m + 3)) to d)) (J := J) (m + 4) (41 * to) 0 (d + 1).toNat (fun i => I (m + 4) (41 * r + i)) (r := (sh, up1 (up1 I (m + 3) (upz (I (m + 3)) to d)) (m + 4) (wr (up1 I (m + 3) (upz (I (m + 3)) to d) (m + 4)) (41 * to) (d + 1).toNat (fun i => I (m + 4) (41 * r + i))), J)) ?_ ?_
  · rw [h, up1_n I _ (show m + 4 ≠ m + 3 by omega)]
    exact ⟨_, rfl, row_wr ⟨hto.1, hto.2.1⟩ (by omega) (upz_s _ _ _) (by omega) (fun q hq => upz_n _ _ hq) (fun k a b => by rw [Int.toNat_of_nonneg a]; exact hc.2 k a b)⟩
  · intro i hi
    unfold s_X11_copies_l14_st
    dsimp only
    rw [up1_n I _ (show m + 4 ≠ m + 3 by omega)]
    have e1 : up1 (up1 I (m + 3) (upz (I (m + 3)) to d)) (m + 4) (wr (I (m + 4)) (41 * to) i (fun i => I (m + 4) (41 * r + i))) (m + 3) r = d := by
      rw [up1_n _ _ (by omega), up1_s, upz_n _ _ (by omega), hc.1]
    have e2 : up1 (up1 I (m + 3) (upz (I (m + 3)) to d)) (m + 4) (wr (I (m + 4)) (41 * to) i (fun i => I (m + 4) (41 * r + i))) (m + 4) (41 * r + (0 + (i : Int))) = I (m + 4) (41 * r + i) := by
      rw [up1_s, wr_out (by omega), Int.zero_add]
    simp (disch := omega) only [bsome, t_ck T, t_gI T, t_pI T, t_gJ T, t_pJ T, tR_deg T, tA_deg T, tU_deg T, e1, w32_id, if_neg, t_of T, e2, t_put T, up1_up1, up1_s, Int.zero_add, wr_out]
  · unfold s_X11_copies_l14_st
    dsimp only
    have e1 : up1 (up1 I (m + 3) (upz (I (m + 3)) to d)) (m + 4) (wr (up1 I (m + 3) (upz (I (m + 3)) to d) (m + 4)) (41 * to) (d + 1).toNat (fun i => I (m + 4) (41 * r + i))) (m + 3) r = d := by
      rw [up1_n _ _ (by omega), up1_s, upz_n _ _ (by omega), hc.1]
    simp (disch := omega) only [bsome, t_ck T, t_gI T, t_pI T, t_gJ T, t_pJ T, tR_deg T, tA_deg T, tU_deg T, e1, w32_id, if_pos]
/-- nothing but zeros -/
def nz (p d : Int) (c : Int → Int) : Prop := ∀ k : Int, 0 ≤ k → k ≤ d → c k % p = 0
theorem bz2_m {x : Int} (h : x = 0 ∨ x = 1) : bz2 x = some () := if_pos h
theorem t_isNought (T : TL sh m) (hp : Pp p) {r d : Int} {c : Int → Int} (hr : 0 ≤ r ∧ r < 48) (hd : -1 ≤ d ∧ d ≤ 40) (hc : RW I m p r d c) : ∃ v : Int, s_X11_isNought m r (sh, I, J) = some (v, (sh, I, J)) ∧ (v = 0 ∨ v = 1) ∧ (v = 1 ↔ nz p d c) := by
  unfold s_X11_isNought s_X11_isNought_l4
  have h := whileO_for (f := fun s : Int × Int × Me => s_X11_isNought_l4_st m r s.1 s.2.1 s.2.2) (d + 1).toNat (fun i s => ∃ v : Int, s = (v, (i : Int), ((sh, I, J) : Me)) ∧ (v = 0 ∨ v = 1) ∧ (v = 1 ↔ ∀ k : Int, 0 ≤ k → k < i → c k % p = 0))
    (fun q => ∃ v : Int, q = (v, ((sh, I, J) : Me)) ∧ (v = 0 ∨ v = 1) ∧ (v = 1 ↔ nz p d c)) ?_ ?_ (1, 0, (sh, I, J)) ?_
  · obtain ⟨q, h1, v, h2, h3⟩ := h
    exact ⟨v, by rw [h1, h2], h3⟩
  · rintro i s hi ⟨v, rfl, h2, h3⟩
    have h1 := hc.2 i (by omega) (by omega)
    have hb := emod_b hp (c i)
    have hb2 := hp.b
    unfold s_X11_isNought_l4_st
    dsimp only
    simp (disch := omega) only [bsome, t_ck T, t_gI T, t_pI T, t_gJ T, t_pJ T, tR_deg T, tA_deg T, tU_deg T, hc.1, w32_id, if_neg, t_of T, h1]
    by_cases hv : v = 0
    · rw [if_pos hv]
      refine ⟨_, rfl, 0, by simp, Or.inl rfl, ⟨fun e => absurd e (by decide), fun e => ?_⟩⟩
      have := h3.mpr (fun k a b => e k a (by omega))
      omega
    · rw [if_neg hv]
      have hv1 : v = 1 := by omega
      by_cases hz : c i % p = 0
      · rw [if_pos hz]
        refine ⟨_, rfl, 1, by simp, Or.inr rfl, ⟨fun _ k a b => ?_, fun _ => rfl⟩⟩
        by_cases e : k = i
        · rw [e, hz]
        · exact h3.mp hv1 k a (by omega)
      · rw [if_neg hz]
        refine ⟨_, rfl, 0, by simp, Or.inl rfl, ⟨fun e => absurd e (by decide), fun e => absurd (e i (by omega) (by omega)) hz⟩⟩
  · rintro s ⟨v, rfl, h2, h3⟩
    unfold s_X11_isNought_l4_st
    dsimp only
    simp (disch := omega) only [bsome, t_ck T, t_gI T, t_pI T, t_gJ T, t_pJ T, tR_deg T, tA_deg T, tU_deg T, hc.1, w32_id, if_pos, bz2_m h2]
    exact ⟨_, rfl, v, rfl, h2, h3.trans ⟨fun g k a b => g k a (by omega), fun g k a b => g k a (by omega)⟩⟩
  · exact ⟨1, rfl, Or.inr rfl, ⟨fun _ k a b => by omega, fun _ => rfl⟩⟩
theorem t_isLike (T : TL sh m) (hp : Pp p) {r q d d2 : Int} {c c2 : Int → Int} (hr : 0 ≤ r ∧ r < 48) (hq : 0 ≤ q ∧ q < 48) (hd : -1 ≤ d ∧ d ≤ 40) (hd2 : -1 ≤ d2 ∧ d2 ≤ 40) (hc : RW I m p r d c) (hc2 : RW I m p q d2 c2) :
    ∃ v : Int, s_X11_isLike m r q (sh, I, J) = some (v, (sh, I, J)) ∧ (v = 0 ∨ v = 1) ∧ (v = 1 ↔ d = d2 ∧ ∀ k : Int, 0 ≤ k → k ≤ d → c k % p = c2 k % p) := by
  have hb2 := hp.b
  unfold s_X11_isLike
  simp (disch := omega) only [bsome, t_ck T, t_gI T, t_pI T, t_gJ T, t_pJ T, tR_deg T, tA_deg T, tU_deg T, hc.1, hc2.1, w32_id]
  by_cases hdd : d = d2
  · rw [if_pos hdd]
    unfold s_X11_isLike_l24
    have h := whileO_upto (f := fun s : Int × Int × Me => s_X11_isLike_l24_st m r q s.1 s.2.1 s.2.2) ((d + 1).toNat + 1) (fun i s => ∃ v : Int, s = (v, (i : Int), ((sh, I, J) : Me)) ∧ (v = 0 ∨ v = 1 ∧ i ≤ (d + 1).toNat) ∧ (v = 1 → ∀ k : Int, 0 ≤ k → k < i → c k % p = c2 k % p) ∧ (v = 0 → ∃ k : Int, 0 ≤ k ∧ k ≤ d ∧ c k % p ≠ c2 k % p))
      (fun x => ∃ v : Int, x = (v, ((sh, I, J) : Me)) ∧ (v = 0 ∨ v = 1) ∧ (v = 1 ↔ d = d2 ∧ ∀ k : Int, 0 ≤ k → k ≤ d → c k % p = c2 k % p)) ?_ ?_ (1, 0, (sh, I, J)) ?_
    · obtain ⟨x, h1, v, h2, h3⟩ := h
      exact ⟨v, by rw [h1, h2], h3⟩
    · rintro i s hi ⟨v, rfl, h2, h3, h4⟩
      unfold s_X11_isLike_l24_st
      dsimp only
      by_cases hv : v = 0
      · right
        subst hv
        rw [show w32 0 = 0 from rfl, if_pos rfl, bz2_m (Or.inl rfl)]
        obtain ⟨k, g1, g2, g3⟩ := h4 rfl
        exact ⟨_, rfl, 0, rfl, Or.inl rfl, ⟨fun e => absurd e (by decide), fun e => absurd (e.2 k g1 g2) g3⟩⟩
      · have hv1 : v = 1 := by clear h3 h4; omega
        subst hv1
        simp (disch := omega) only [bsome, t_ck T, t_gI T, t_pI T, t_gJ T, t_pJ T, tR_deg T, tA_deg T, tU_deg T, hc.1, w32_id, if_neg]
        by_cases hk : d < i
        · right
          rw [if_pos hk, bz2_m (Or.inr rfl)]
          exact ⟨_, rfl, 1, rfl, Or.inr rfl, ⟨fun _ => ⟨hdd, fun k a b => h3 rfl k a (by omega)⟩, fun _ => rfl⟩⟩
        · left
          rw [if_neg hk]
          have e1 := hc.2 i (by omega) (by omega)
          have e2 := hc2.2 i (by omega) (by omega)
          have b1 := emod_b hp (c i)
          have b2 := emod_b hp (c2 i)
          simp (disch := omega) only [bsome, t_ck T, t_gI T, t_pI T, t_gJ T, t_pJ T, tR_deg T, tA_deg T, tU_deg T, t_of T, e1, e2, w32_id]
          by_cases hz : c i % p = c2 i % p
          · rw [if_pos hz]
            refine ⟨_, rfl, 1, by simp, Or.inr ⟨rfl, by omega⟩, fun _ k a b => ?_, fun e => absurd e (by decide)⟩
            by_cases e : k = i
            · rw [e, hz]
            · exact h3 rfl k a (by omega)
          · rw [if_neg hz]
            exact ⟨_, rfl, 0, by simp, Or.inl rfl, fun e => absurd e (by decide), fun _ => ⟨i, by omega, by omega, hz⟩⟩
    · rintro s ⟨v, rfl, h2, h3, h4⟩
      have hv : v = 0 := by clear h3 h4; omega
      subst hv
      unfold s_X11_isLike_l24_st
      dsimp only
      rw [show w32 0 = 0 from rfl, if_pos rfl, bz2_m (Or.inl rfl)]
      obtain ⟨k, g1, g2, g3⟩ := h4 rfl
      exact ⟨_, rfl, 0, rfl, Or.inl rfl, ⟨fun e => absurd e (by decide), fun e => absurd (e.2 k g1 g2) g3⟩⟩
    · exact ⟨1, rfl, Or.inr ⟨rfl, by omega⟩, fun _ k a b => by omega, fun e => absurd e (by decide)⟩
  · rw [if_neg hdd]
    refine ⟨0, ?_, Or.inl rfl, ⟨fun e => absurd e (by decide), fun e => absurd e.1 hdd⟩⟩
    unfold s_X11_isLike_l24
    refine whileO_tr 0 (fun _ => (0, 0, (sh, I, J))) rfl (fun i hi => by omega) ?_
    unfold s_X11_isLike_l24_st
    dsimp only
    rw [show w32 0 = 0 from rfl, if_pos rfl, bz2_m (Or.inl rfl)]
    rfl
end TC
