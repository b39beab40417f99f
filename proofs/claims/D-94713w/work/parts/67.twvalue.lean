/-! the twin: value, rank, stays, agree -/
set_option maxRecDepth 100000
theorem ifT {α : Type} {h : Decidable True} (a b : α) : @ite α True h a b = a := if_pos trivial
theorem RW.ext {I I' : Nat → Int → Int} {m : Nat} {p r d : Int} {c : Int → Int} (h : RW I m p r d c) (h3 : I' (m + 3) = I (m + 3)) (h4 : I' (m + 4) = I (m + 4)) : RW I' m p r d c := by
  unfold RW
  rw [h3, h4]
  exact h
theorem RW.tk {I : Nat → Int → Int} {m : Nat} {p r d x y z w : Int} {c : Int → Int} (h : RW I m p r d c) : RW (tkT I m x y z w) m p r d c := h.ext (tkT_n (by omega)) (tkT_n (by omega))
def fF (W : Int → Int) (f : Int) : Fo := ((fD W f).toNat, fC W f)
theorem fF_1 {W : Int → Int} {f : Int} (h : wF W f) : ((fF W f).1 : Int) = fD W f ∧ (fF W f).1 ≤ 8 := by
  have h1 := h.1
  unfold fF
  dsimp only
  omega
def vlP (p k : Int) : Option Fo → Int
  | none => -2
  | some v => tellP v.1 v.2 p k
theorem lkI_symm (p d : Int) (x : Int → Int) (e : Int) (y : Int → Int) (hd : -1 ≤ d) (he : -1 ≤ e) : lkI p d x e y = lkI p e y d x := by
  obtain ⟨a1, a2⟩ := lkI_iff (p := p) (d := d) (x := x) (e := e) (y := y) hd
  obtain ⟨b1, b2⟩ := lkI_iff (p := p) (d := e) (x := y) (e := d) (y := x) he
  have h : (d = e ∧ ∀ k : Int, 0 ≤ k → k ≤ d → x k % p = y k % p) ↔ (e = d ∧ ∀ k : Int, 0 ≤ k → k ≤ e → y k % p = x k % p) :=
    ⟨fun g => ⟨g.1.symm, fun k u v => (g.2 k u (by omega)).symm⟩, fun g => ⟨g.1.symm, fun k u v => (g.2 k u (by omega)).symm⟩⟩
  rcases a1 with a | a
  · rcases b1 with b | b
    · rw [a, b]
    · exact absurd (a2.mpr (h.mpr (b2.mp b))) (by rw [a]; decide)
  · rw [a, b2.mpr (h.mp (a2.mp a))]
def alk (p : Int) : Option Fo → Option Fo → Int
  | none, none => 1
  | some x, some y => lkI p x.1 x.2 y.1 y.2
  | _, _ => 0
/-- the first from i on, of so many, that is 0 *-/
def fst0 (P : Nat → Int) : Nat → Nat → Int
  | 0, _ => -1
  | n + 1, i => if P i = 0 then (i : Int) else fst0 P n (i + 1)
def agP (W : Int → Int) (d : Int) (v1 v2 : Fo → Option Fo) (i : Nat) : Int := if fD W i = d then alk (W 0) (v1 (fF W i)) (v2 (fF W i)) else 1
def styP (p w a b c d : Int) : Option Fo → Option Fo → Int
  | some v, some u => if w < 0 then 0 else lkI p u.1 u.2 v.1 (fun k => mixP v.1 a b c d v.2 k * dtP a b c d ^ w.toNat)
  | _, _ => 0
theorem alk_b (p : Int) (x y : Option Fo) : alk p x y = 0 ∨ alk p x y = 1 := by
  cases x with
  | none => cases y with
    | none => exact Or.inr rfl
    | some y => exact Or.inl rfl
  | some x => cases y with
    | none => exact Or.inl rfl
    | some y => exact (lkI_iff (p := p) (d := x.1) (x := x.2) (e := y.1) (y := y.2) (by omega)).1
section TV
variable {sh : Sh} {I J : Nat → Int → Int} {m : Nat} {p : Int}
theorem t_takesF (T : TL sh m) {W : Int → Int} (hw : I (m + 1) = W) (hW : WI W) {r f : Int} (hr : 0 ≤ r ∧ r < 48) (h0 : 0 ≤ f) (h1 : f < W 1) :
    ∃ I', s_X11_takes m r f (sh, I, J) = some (sh, I', J) ∧ RW I' m (W 0) r (fF W f).1 (fF W f).2 ∧ RF m (fun q => q = r) I I' := by
  have hc := hW.c1
  have hF := hW.f h0 h1
  obtain ⟨I', e, r2, f2⟩ := t_takes (I := I) (J := J) T (p := W 0) (by rw [hw]) hr (f := f) (by omega) (by rw [hw]; exact hF)
  rw [hw] at r2
  refine ⟨I', e, ?_, f2⟩
  rw [(fF_1 hF).1]
  exact r2
theorem t_value (T : TL sh m) (hW : WI (I (m + 1))) {s f k : Int} (hs : i32 s) (hf : i32 f) (hk : i32 k) :
    (∀ (n : Nat) (t : Tr n), (0 ≤ s ∧ s < I (m + 1) 3) → (0 ≤ f ∧ f < I (m + 1) 1) → SgW (I (m + 1)) s n t → QG (s_X11_value m s f k (sh, I, J)) sh I J m (vlP (I (m + 1) 0) k (Tr.val (fF (I (m + 1)) f) n t))) ∧
    (¬((0 ≤ s ∧ s < I (m + 1) 3) ∧ (0 ≤ f ∧ f < I (m + 1) 1)) → QB (s_X11_value m s f k (sh, I, J)) sh I J m 1) := by
  obtain ⟨W, hw⟩ : ∃ W, I (m + 1) = W := ⟨_, rfl⟩
  rw [hw] at hW ⊢
  have hc1 := hW.c1
  have hc3 := hW.c3
  have hp := hW.pp
  have h0 : thr I m 0 (m + 1) = W := by rw [thr_n (by omega), hw]
  have e1 := t_noF (I := thr I m 0) (J := J) T (by rw [h0]; exact hc1) hf
  have e1' := t_noS (I := thr I m 0) (J := J) T (by rw [h0]; exact hc3) hs
  rw [h0] at e1 e1'
  refine ⟨fun n t h g hS => ?_, fun h => ?_⟩
  · rw [if_pos h] at e1'
    rw [if_pos g] at e1
    obtain ⟨I2, e2, r2, f2⟩ := t_takesF (I := thr I m 0) (J := J) T h0 hW (r := 44) (by omega) g.1 g.2
    have hw2 : I2 (m + 1) = W := by rw [f2.w, h0]
    have hF8 := (fF_1 (hW.f g.1 g.2)).2
    obtain ⟨g1, g2⟩ := t_makes (J := J) T (p := W 0) (by rw [hw2]) hp (s := s) (by omega) (F := fF W f) (by omega) (by rw [hw2]; exact hS) r2
    have pre : s_X11_value m s f k (sh, I, J) = s_X11_value_b27 m s f k 0 m (sh, thr I m 0, J) := by
      unfold s_X11_value
      simp (disch := omega) only [t_thr T, bsome, t_ck T, e1, e1', w32_id, if_pos, ifT]
      all_goals rfl
    rw [pre]
    unfold s_X11_value_b27
    simp (disch := omega) only [t_ck T, bsome, t_if0, w32_id (x := 0), if_pos, e2, ifT]
    cases hv : Tr.val (fF W f) n t with
    | none =>
      obtain ⟨I3, e3, f3⟩ := g2 hv
      rw [e3, bsome]
      simp (disch := omega) only [w32_id (x := 0), if_pos, ifT]
      exact ⟨_, _, rfl, f2.hk.trans f3.hk, HJ.refl⟩
    | some v =>
      obtain ⟨I3, e3, r3, f3⟩ := g1 v hv
      have hd := Tr.val_d (show (fF W f).1 ≤ 40 by omega) n t v hv
      rw [e3, bsome]
      simp (disch := omega) only [bsome, t_ck T, t_gI T, t_pI T, t_gJ T, t_pJ T, tR_deg T, tA_deg T, tU_deg T, w32_id (x := 1), w32_id (x := -1), if_neg, r3.1, ifT]
      rw [w32_id hk.1 hk.2]
      show QG _ sh I J m (tellP v.1 v.2 (W 0) k)
      unfold tellP
      by_cases k1 : k = -1
      · rw [if_pos k1, if_pos k1]
        exact ⟨_, _, rfl, f2.hk.trans f3.hk, HJ.refl⟩
      · rw [if_neg k1, if_neg k1, x_in hk ⟨by omega, by omega⟩ ⟨by omega, by omega⟩, bsome]
        dsimp only
        by_cases k2 : 0 ≤ k ∧ k ≤ v.1
        · have h9 := r3.2 k k2.1 k2.2
          rw [if_pos k2, if_pos k2]
          simp (disch := omega) only [w32_id (x := 1), if_neg, t_ck T, bsome, t_of T, h9, ifT]
          exact ⟨_, _, rfl, f2.hk.trans f3.hk, HJ.refl⟩
        · rw [if_neg k2, if_neg k2]
          exact ⟨_, _, rfl, f2.hk.trans f3.hk, HJ.refl⟩
  · have key : s_X11_value m s f k (sh, I, J) = s_X11_value_b22 m s f k m (sh, thr I m 0, J) := by
      unfold s_X11_value
      simp (disch := omega) only [t_thr T, bsome, t_ck T, e1, e1']
      by_cases h1 : 0 ≤ s ∧ s < W 3
      · rw [if_pos h1, if_neg (fun h2 => h ⟨h1, h2⟩)]
        simp (disch := omega) only [w32_id, if_pos, if_neg, ifT]
        all_goals rfl
      · rw [if_neg h1]
        simp (disch := omega) only [w32_id, if_neg, ifT]
    rw [key]
    unfold s_X11_value_b22 s_X11_value_b27
    simp (disch := omega) only [t_ck T, bsome, t_if1 T, w32_id, if_neg, thr_thr, ifT]
    exact ⟨_, _, _, rfl, HK.refl, HJ.refl⟩
theorem l5_eq (s w top i : Int) (μ : Me) : s_X11_rankOf_l5 m s w top i μ = (s_X11_rankOf_l5_st m s w top i μ).bind fun x => x.elim (fun z => s_X11_rankOf_l5 m s w z.1 z.2.1 z.2.2) some := by
  unfold s_X11_rankOf_l5
  rw [whileO_eq]
theorem t_rktree (T : TL sh m) {W : Int → Int} {s w : Int} (hs : 0 ≤ s ∧ s < 8) (hwt : w = 0 ∨ w = 1) (hlen : W (198 + 401 * s) ≤ 199) :
    ∀ (n : Nat) (t : Tr n) (i top : Int) (I : Nat → Int → Int), Tr.wf n t → I (m + 1) = W → 0 ≤ i → i + (Tr.post n t).length ≤ W (198 + 401 * s) → LSt W s i (Tr.post n t) → 0 ≤ top → top + Tr.lv n t ≤ 40 →
      ∃ I', s_X11_rankOf_l5 m s w top i (sh, I, J) = s_X11_rankOf_l5 m s w (top + 1) (i + (Tr.post n t).length) (sh, I', J) ∧ I' (m + 7) top = Tr.rk w n t ∧ (∀ q : Int, 0 ≤ q → q < top → I' (m + 7) q = I (m + 7) q) ∧ ∀ a : Nat, a ≠ m + 7 → I' a = I a
  | 0, t, _, _, _, _, _, _, _, _, _, _ => Empty.elim t
  | n + 1, .inl u, i, top, I, _, hI, hi, hle, hL, ht, htl => by
    have hle : i + 1 ≤ W (198 + 401 * s) := hle
    have hL : (W (198 + 401 * s + 1 + 2 * i) = 0 ∧ W (198 + 401 * s + 2 + 2 * i) = 0) ∧ True := hL
    have htl : top + 1 ≤ 40 := htl
    refine ⟨up1 I (m + 7) (upz (I (m + 7)) top (if w = 0 then 1 else 0)), ?_, by rw [up1_s, upz_s]; rfl, fun q h0 h1 => by rw [up1_s, upz_n _ _ (by omega)], fun a h => up1_n _ _ h⟩
    rw [l5_eq]
    unfold s_X11_rankOf_l5_st
    simp (disch := omega) only [bsome, t_ck T, t_gI T, t_pI T, t_gJ T, t_pJ T, tR_ranks T, tA_ranks T, tU_ranks T, t_stepsOf T, t_stepOf T, hI, w32_id, if_neg, hL.1.1, if_pos, ifT]
    rcases hwt with h | h
    · rw [if_pos h, if_pos h]
      rfl
    · rw [if_neg (show ¬ w = 0 by omega), if_neg (show ¬ w = 0 by omega)]
      rfl
  | n + 1, .inr (.inl c), i, top, I, hwf, hI, hi, hle, hL, ht, htl => by
    have hle : i + 1 ≤ W (198 + 401 * s) := hle
    have hL : (W (198 + 401 * s + 1 + 2 * i) = 1 ∧ W (198 + 401 * s + 2 + 2 * i) = c) ∧ True := hL
    have htl : top + 1 ≤ 40 := htl
    refine ⟨up1 I (m + 7) (upz (I (m + 7)) top 0), ?_, by rw [up1_s, upz_s]; rfl, fun q h0 h1 => by rw [up1_s, upz_n _ _ (by omega)], fun a h => up1_n _ _ h⟩
    rw [l5_eq]
    unfold s_X11_rankOf_l5_st
    simp (disch := omega) only [bsome, t_ck T, t_gI T, t_pI T, t_gJ T, t_pJ T, tR_ranks T, tA_ranks T, tU_ranks T, t_stepsOf T, t_stepOf T, hI, w32_id, if_neg, hL.1.1, ifT]
    rfl
  | n + 1, .inr (.inr (.inl t)), i, top, I, hwf, hI, hi, hle, hL, ht, htl => by
    have hlen2 : (Tr.post (n + 1) (.inr (.inr (.inl t)))).length = (Tr.post n t).length + 1 := by
      show (Tr.post n t ++ [((5 : Int), (0 : Int))]).length = _
      simp
    rw [hlen2] at hle ⊢
    have hL := LSt_app.mp (show LSt W s i (Tr.post n t ++ [(5, 0)]) from hL)
    have hL2 : (W (198 + 401 * s + 1 + 2 * (i + (Tr.post n t).length)) = 5 ∧ W (198 + 401 * s + 2 + 2 * (i + (Tr.post n t).length)) = 0) ∧ True := hL.2
    obtain ⟨I2, e2, r2, q2, f2⟩ := t_rktree T hs hwt hlen n t i top I hwf hI hi (by omega) hL.1 ht htl
    have hI2 : I2 (m + 1) = W := by rw [f2 _ (by omega), hI]
    refine ⟨I2, ?_, r2, q2, f2⟩
    rw [e2, l5_eq]
    unfold s_X11_rankOf_l5_st
    simp (disch := omega) only [t_ck T, bsome, t_stepsOf T, t_stepOf T, hI2, w32_id, if_neg, hL2.1.1, if_pos, ifT]
    rw [Int.natCast_add, Int.natCast_one, ← Int.add_assoc]
    rfl
  | n + 1, .inr (.inr (.inr (o, t1, t2))), i, top, I, hwf, hI, hi, hle, hL, ht, htl => by
    have hlen2 : (Tr.post (n + 1) (.inr (.inr (.inr (o, t1, t2))))).length = (Tr.post n t1).length + (Tr.post n t2).length + 1 := by
      show (Tr.post n t1 ++ (Tr.post n t2 ++ [o])).length = _
      simp
      omega
    rw [hlen2] at hle ⊢
    have hL1 := LSt_app.mp (show LSt W s i (Tr.post n t1 ++ (Tr.post n t2 ++ [o])) from hL)
    have hL2 := LSt_app.mp hL1.2
    have hL3 : (W (198 + 401 * s + 1 + 2 * (i + (Tr.post n t1).length + (Tr.post n t2).length)) = o.1 ∧ W (198 + 401 * s + 2 + 2 * (i + (Tr.post n t1).length + (Tr.post n t2).length)) = o.2) ∧ True := hL2.2
    have htl : top + ((Tr.lv n t1 + Tr.lv n t2 : Nat) : Int) ≤ 40 := htl
    obtain ⟨ho, w1, w2⟩ := (show okO o ∧ Tr.wf n t1 ∧ Tr.wf n t2 from hwf)
    have l1 := Tr.lv_pos n t1
    have l2 := Tr.lv_pos n t2
    obtain ⟨I2, e2, r2, q2, f2⟩ := t_rktree T hs hwt hlen n t1 i top I w1 hI hi (by omega) hL1.1 ht (by omega)
    have hI2 : I2 (m + 1) = W := by rw [f2 _ (by omega), hI]
    obtain ⟨I3, e3, r3, q3, f3⟩ := t_rktree T hs hwt hlen n t2 (i + (Tr.post n t1).length) (top + 1) I2 w2 hI2 (by omega) (by omega) hL2.1 (by omega) (by omega)
    have hI3 : I3 (m + 1) = W := by rw [f3 _ (by omega), hI2]
    have ra : I3 (m + 7) top = Tr.rk w n t1 := by rw [q3 top ht (by omega), r2]
    have ba := Tr.rk_b w n t1 w1
    have bb := Tr.rk_b w n t2 w2
    obtain ⟨x, hx⟩ : ∃ x, Tr.rk w n t1 = x := ⟨_, rfl⟩
    obtain ⟨y, hy⟩ : ∃ y, Tr.rk w n t2 = y := ⟨_, rfl⟩
    rw [hx] at ra ba
    rw [hy] at r3 bb
    have hrk : Tr.rk w (n + 1) (.inr (.inr (.inr (o, t1, t2)))) = jnR w o x y := by
      show jnR w o (Tr.rk w n t1) (Tr.rk w n t2) = _
      rw [hx, hy]
    refine ⟨up1 I3 (m + 7) (upz (I3 (m + 7)) top (jnR w o x y)), ?_, by rw [up1_s, upz_s, hrk], fun q h0 h1 => by rw [up1_s, upz_n _ _ (by omega), q3 q h0 (by omega), q2 q h0 h1], fun a h => by rw [up1_n _ _ h, f3 a h, f2 a h]⟩
    rw [e2, e3, l5_eq]
    have hin : i + (((Tr.post n t1).length + (Tr.post n t2).length + 1 : Nat) : Int) = i + (Tr.post n t1).length + (Tr.post n t2).length + 1 := by omega
    rw [hin]
    obtain ⟨ho1, ho2, ho3⟩ := ho
    unfold s_X11_rankOf_l5_st
    rw [show top + 1 + 1 + -1 - 1 = top by omega, show top + 1 + 1 + -1 = top + 1 by omega]
    simp (disch := omega) only [bsome, t_ck T, t_gI T, t_pI T, t_gJ T, t_pJ T, tR_ranks T, tA_ranks T, tU_ranks T, t_stepsOf T, t_stepOf T, hI3, w32_id (x := W (198 + 401 * s)), w32_id (x := i + ((Tr.post n t1).length : Int) + ((Tr.post n t2).length : Int)), w32_id (x := o.1), w32_id (x := 1), w32_id (x := 5), w32_id (x := 2), if_neg, if_pos, hL3.1.1, ra, r3, w32_id (x := x), w32_id (x := y), ifT]
    unfold s_X11_rankOf_b106 s_X11_rankOf_b110 s_X11_rankOf_b111
    rw [show top + 1 - 1 = top by omega]
    simp (disch := omega) only [bsome, t_ck T, t_gI T, t_pI T, t_gJ T, t_pJ T, tR_ranks T, tA_ranks T, tU_ranks T, hI3, t_toldBy T, w32_id (x := o.1), w32_id (x := 1), w32_id (x := 0), w32_id (x := 2), w32_id (x := 4), w32_id (x := w), hL3.1.2, if_neg, if_pos, ifT]
    unfold jnR
    by_cases c1 : x < 0
    · rw [if_pos c1, if_pos (Or.inl c1)]; rfl
    rw [if_neg c1]
    by_cases c2 : y < 0
    · rw [if_pos c2, if_pos (Or.inr (Or.inl c2))]; rfl
    rw [if_neg c2]
    by_cases c3 : o.1 = 2
    · rw [if_pos c3, if_pos c3]
      by_cases c4 : x = y
      · rw [if_pos c4, if_neg (by omega)]; rfl
      · rw [if_neg c4, if_pos (Or.inr (Or.inr ⟨c3, c4⟩))]; rfl
    rw [if_neg c3, if_neg c3, if_neg (show ¬(x < 0 ∨ y < 0 ∨ o.1 = 2 ∧ x ≠ y) by omega)]
    by_cases c5 : w = 0
    · rw [if_pos c5, if_neg (fun g => g.1 c5)]; rfl
    rw [if_neg c5]
    by_cases c6 : o.1 = 4
    · rw [if_pos c6, if_pos ⟨c5, c6⟩]; rfl
    · rw [if_neg c6, if_neg (fun g => c6 g.2)]; rfl
theorem t_rankOf (T : TL sh m) {s w : Int} (hs : 0 ≤ s ∧ s < 8) (hwt : w = 0 ∨ w = 1) {n : Nat} {t : Tr n} (hS : SgW (I (m + 1)) s n t) : ∃ I', s_X11_rankOf m s w (sh, I, J) = some (Tr.rk w n t, (sh, I', J)) ∧ ∀ a : Nat, a ≠ m + 7 → I' a = I a := by
  obtain ⟨h1, h2, h3, h4, h5⟩ := hS
  obtain ⟨I', e1, r1, -, f1⟩ := t_rktree (J := J) T (W := I (m + 1)) hs hwt (by omega) n t 0 0 I h4 rfl (by omega) (by omega) h3 (by omega) (by omega)
  refine ⟨I', ?_, f1⟩
  have hw : I' (m + 1) (198 + 401 * s) = (Tr.post n t).length := by rw [f1 _ (by omega), h1]
  unfold s_X11_rankOf
  rw [e1, l5_eq]
  unfold s_X11_rankOf_l5_st s_X11_rankOf_b174
  simp (disch := omega) only [bsome, t_ck T, t_gI T, t_pI T, t_gJ T, t_pJ T, tR_ranks T, tA_ranks T, tU_ranks T, t_stepsOf T, hw, w32_id, if_pos, r1, ifT]
  rfl
theorem HK.of7 {I' : Nat → Int → Int} (h : ∀ a : Nat, a ≠ m + 7 → I' a = I a) : HK m I I' := ⟨fun a x y => h a (by omega), fun k _ => by rw [h m (by omega)]⟩
theorem t_rank (T : TL sh m) (hW : WI (I (m + 1))) {s w : Int} (hs : i32 s) (hwt : w = 0 ∨ w = 1) :
    (∀ (n : Nat) (t : Tr n), (0 ≤ s ∧ s < I (m + 1) 3) → SgW (I (m + 1)) s n t → QG (s_X11_rank m s w (sh, I, J)) sh I J m (Tr.rk w n t)) ∧
    (¬(0 ≤ s ∧ s < I (m + 1) 3) → QB (s_X11_rank m s w (sh, I, J)) sh I J m 1) := by
  obtain ⟨W, hw⟩ : ∃ W, I (m + 1) = W := ⟨_, rfl⟩
  rw [hw] at hW ⊢
  have hc3 := hW.c3
  have h0 : thr I m 0 (m + 1) = W := by rw [thr_n (by omega), hw]
  have e1 := t_noS (I := thr I m 0) (J := J) T (by rw [h0]; exact hc3) hs
  rw [h0] at e1
  refine ⟨fun n t h hS => ?_, fun h => ?_⟩
  · rw [if_pos h] at e1
    obtain ⟨I2, e2, f2⟩ := t_rankOf (I := thr I m 0) (J := J) T (s := s) (by omega) hwt (n := n) (t := t) (by rw [h0]; exact hS)
    unfold s_X11_rank
    simp (disch := omega) only [t_thr T, bsome, t_ck T, e1, t_if0, w32_id, if_pos, e2, ifT]
    exact ⟨_, _, rfl, HK.of7 f2, HJ.refl⟩
  · rw [if_neg h] at e1
    unfold s_X11_rank
    simp (disch := omega) only [t_thr T, bsome, t_ck T, e1, t_if1 T, w32_id, if_neg, thr_thr, ifT]
    exact ⟨_, _, _, rfl, HK.refl, HJ.refl⟩
theorem t_stays (T : TL sh m) (hW : WI (I (m + 1))) {s f u : Int} (hs : i32 s) (hf : i32 f) (hu : i32 u) :
    (∀ (n : Nat) (t : Tr n), (0 ≤ s ∧ s < I (m + 1) 3) → (0 ≤ f ∧ f < I (m + 1) 1) → (0 ≤ u ∧ u < I (m + 1) 2) → SgW (I (m + 1)) s n t → QG (s_X11_stays m s f u (sh, I, J)) sh I J m
      (styP (I (m + 1) 0) (Tr.rk 1 n t) (tT (I (m + 1)) u 0) (tT (I (m + 1)) u 1) (tT (I (m + 1)) u 2) (tT (I (m + 1)) u 3) (Tr.val (fF (I (m + 1)) f) n t)
        (Tr.val ((fF (I (m + 1)) f).1, mixP (fF (I (m + 1)) f).1 (tT (I (m + 1)) u 0) (tT (I (m + 1)) u 1) (tT (I (m + 1)) u 2) (tT (I (m + 1)) u 3) (fF (I (m + 1)) f).2) n t))) ∧
    (¬((0 ≤ s ∧ s < I (m + 1) 3) ∧ (0 ≤ f ∧ f < I (m + 1) 1) ∧ (0 ≤ u ∧ u < I (m + 1) 2)) → QB (s_X11_stays m s f u (sh, I, J)) sh I J m 1) := by
  obtain ⟨W, hw⟩ : ∃ W, I (m + 1) = W := ⟨_, rfl⟩
  rw [hw] at hW ⊢
  have hc1 := hW.c1
  have hc2 := hW.c2
  have hc3 := hW.c3
  have hp := hW.pp
  have h0 : thr I m 0 (m + 1) = W := by rw [thr_n (by omega), hw]
  have e1 := t_noF (I := thr I m 0) (J := J) T (by rw [h0]; exact hc1) hf
  have e1' := t_noS (I := thr I m 0) (J := J) T (by rw [h0]; exact hc3) hs
  have e1'' := t_noT (I := thr I m 0) (J := J) T (by rw [h0]; exact hc2) hu
  rw [h0] at e1 e1' e1''
  refine ⟨fun n t h g gu hS => ?_, fun h => ?_⟩
  · rw [if_pos h] at e1'
    rw [if_pos g] at e1
    rw [if_pos gu] at e1''
    obtain ⟨I1, q1, f1⟩ := t_rankOf (I := thr I m 0) (J := J) T (s := s) (w := 1) (by omega) (Or.inr rfl) (n := n) (t := t) (by rw [h0]; exact hS)
    have hw1 : I1 (m + 1) = W := by rw [f1 _ (by omega), h0]
    obtain ⟨I2, e2, r2, f2⟩ := t_takesF (I := I1) (J := J) T hw1 hW (r := 44) (by omega) g.1 g.2
    have hw2 : I2 (m + 1) = W := by rw [f2.w, hw1]
    have hF8 := (fF_1 (hW.f g.1 g.2)).2
    obtain ⟨F, hF⟩ : ∃ F, fF W f = F := ⟨_, rfl⟩
    rw [hF] at r2 hF8 ⊢
    obtain ⟨a, ha⟩ : ∃ a, tT W u 0 = a := ⟨_, rfl⟩
    obtain ⟨b, hb⟩ : ∃ b, tT W u 1 = b := ⟨_, rfl⟩
    obtain ⟨c, hc⟩ : ∃ c, tT W u 2 = c := ⟨_, rfl⟩
    obtain ⟨d, hd⟩ : ∃ d, tT W u 3 = d := ⟨_, rfl⟩
    have hT := hW.t gu.1 gu.2
    rw [ha, hb, hc, hd] at hT ⊢
    have hk2 : HK m (thr I m 0) I2 := (HK.of7 f1).trans f2.hk
    obtain ⟨rb1, rb2⟩ := Tr.rk_b 1 n t hS.2.2.2.1
    have hlv := hS.2.2.2.2
    obtain ⟨w, hwk⟩ : ∃ w, Tr.rk 1 n t = w := ⟨_, rfl⟩
    rw [hwk] at rb1 rb2 q1 ⊢
    have pre : s_X11_stays m s f u (sh, I, J) = s_X11_stays_b35 m s f u 0 m (sh, thr I m 0, J) := by
      unfold s_X11_stays
      simp (disch := omega) only [t_thr T, bsome, t_ck T, e1, e1', e1'', w32_id, if_pos, ifT]
      all_goals rfl
    rw [pre]
    unfold s_X11_stays_b35
    simp (disch := omega) only [t_ck T, bsome, t_if0, w32_id (x := 0), w32_id (x := w), if_pos, q1, e2, ifT]
    by_cases hneg : w < 0
    · rw [if_pos hneg]
      have e : ∀ x y, styP (W 0) w a b c d x y = 0 := by
        intro x y
        cases x with
        | none => rfl
        | some x => cases y with
          | none => rfl
          | some y => exact if_pos hneg
      rw [e]
      exact ⟨_, _, rfl, hk2, HJ.refl⟩
    rw [if_neg hneg]
    obtain ⟨g1, g2⟩ := t_makes (J := J) T (p := W 0) (by rw [hw2]) hp (s := s) (by omega) (F := F) (by omega) (by rw [hw2]; exact hS) r2
    cases hv : Tr.val F n t with
    | none =>
      obtain ⟨I3, e3, f3⟩ := g2 hv
      rw [e3, bsome]
      simp (disch := omega) only [w32_id (x := 0), if_pos, ifT]
      exact ⟨_, _, rfl, hk2.trans f3.hk, HJ.refl⟩
    | some v =>
      obtain ⟨I3, e3, r3, f3⟩ := g1 v hv
      have hvd := Tr.val_d (show F.1 ≤ 40 by omega) n t v hv
      have hw3 : I3 (m + 1) = W := by rw [f3.w, hw2]
      have e4 := t_tables (I := I3) (J := J) T gu.1 (show u < 8 by omega)
      rw [hw3, ha, hb, hc, hd] at e4
      obtain ⟨I4, hI4⟩ : ∃ I4, tkT I3 m a b c d = I4 := ⟨_, rfl⟩
      have k4 : HK m I3 I4 := by rw [← hI4]; exact tkT_hk
      have hTB : TB I4 m (W 0) a b c d := by rw [← hI4]; exact tkT_tb hT
      have r4 : RW I4 m (W 0) 0 v.1 v.2 := by rw [← hI4]; exact r3.tk
      rw [hI4] at e4
      have hw4 : I4 (m + 1) = W := by rw [k4.w, hw3]
      obtain ⟨I5, e5, r5, f5⟩ := t_mixes (J := J) (f := 0) (to := 42) T (p := W 0) (by rw [hw4]) hp (by omega) (by omega) hvd hTB r4
      have hw5 : I5 (m + 1) = W := by rw [f5.w, hw4]
      have hTB5 := hTB.keep f5
      have e6 := t_detNow (J := J) T (p := W 0) (by rw [hw5]) hp hTB5
      have e7 := t_powerM (I := I5) (J := J) T (p := W 0) (by rw [hw5]) hp (dtP a b c d) (n := w) (by omega) (by omega)
      have hk5 : HK m (thr I m 0) I5 := ((hk2.trans f3.hk).trans k4).trans f5.hk
      rw [e3, bsome]
      simp (disch := omega) only [t_ck T, bsome, w32_id (x := 1), if_neg, e4, e5, e6, e7, ifT]
      unfold s_X11_stays_l101
      have hlp := row_loop (sh := sh) (J := J) (p := W 0) (f := fun z : Int × Me => s_X11_stays_l101_st m s f (dtP a b c d ^ w.toNat % W 0) z.1 z.2) (y := fun k => mixP v.1 a b c d v.2 k * dtP a b c d ^ w.toNat) (fun μ => s_X11_stays_b141 m s f μ) (show 0 ≤ (42 : Int) ∧ (42 : Int) < 48 by omega) (show -1 ≤ (v.1 : Int) ∧ (v.1 : Int) ≤ 40 by omega) r5 ?_ ?_
      · obtain ⟨I6, c1, c2, c3⟩ := hlp
        rw [c1]
        have hw6 : I6 (m + 1) = W := by rw [c3.w, hw5]
        obtain ⟨I7, e8, r8, f8⟩ := t_takesF (I := I6) (J := J) T hw6 hW (r := 40) (by omega) g.1 g.2
        rw [hF] at r8
        have hw8 : I7 (m + 1) = W := by rw [f8.w, hw6]
        have hTB8 := (hTB5.keep c3).keep f8
        obtain ⟨I8, e9, r9, f9⟩ := t_mixes (J := J) (f := 40) (to := 44) T (p := W 0) (by rw [hw8]) hp (by omega) (by omega) (show F.1 ≤ 40 by omega) hTB8 r8
        have hw9 : I8 (m + 1) = W := by rw [f9.w, hw8]
        have hk8 : HK m (thr I m 0) I8 := ((hk5.trans c3.hk).trans f8.hk).trans f9.hk
        have hrow : RW I8 m (W 0) 42 v.1 (fun k => mixP v.1 a b c d v.2 k * dtP a b c d ^ w.toNat) := (c2.keep f8 (by omega) (by omega) (by omega) (by omega)).keep f9 (by omega) (by omega) (by omega) (by omega)
        obtain ⟨y1, y2⟩ := t_makes (J := J) T (p := W 0) (by rw [hw9]) hp (s := s) (by omega) (F := ((F.1, mixP F.1 a b c d F.2) : Fo)) (show F.1 ≤ 40 by omega) (by rw [hw9]; exact hS) r9
        unfold s_X11_stays_b141
        simp (disch := omega) only [t_ck T, bsome, e8, e9]
        cases hz : Tr.val ((F.1, mixP F.1 a b c d F.2) : Fo) n t with
        | none =>
          obtain ⟨I9, z1, z2⟩ := y2 hz
          rw [z1, bsome]
          simp (disch := omega) only [w32_id (x := 0), if_pos, ifT]
          exact ⟨_, _, rfl, hk8.trans z2.hk, HJ.refl⟩
        | some z =>
          obtain ⟨I9, z1, z2, z3⟩ := y1 z hz
          have hzd := Tr.val_d (F := ((F.1, mixP F.1 a b c d F.2) : Fo)) (show F.1 ≤ 40 by omega) n t z hz
          have e10 := t_isL (J := J) T hp (r := 0) (q := 42) (by omega) (by omega) (by omega) (by omega) z2 (hrow.keep z3 (by unfold mkS; omega) (by omega) (by omega) (by omega))
          rw [z1, bsome]
          simp (disch := omega) only [t_ck T, bsome, w32_id (x := 1), if_neg, e10, ifT]
          have hres : styP (W 0) w a b c d (some v) (some z) = lkI (W 0) z.1 z.2 v.1 (fun k => mixP v.1 a b c d v.2 k * dtP a b c d ^ w.toNat) := if_neg hneg
          rw [hres]
          rcases (lkI_iff (p := W 0) (d := z.1) (x := z.2) (e := v.1) (y := fun k => mixP v.1 a b c d v.2 k * dtP a b c d ^ w.toNat) (by omega)).1 with x | x
          · rw [x]
            exact ⟨_, _, rfl, hk8.trans z3.hk, HJ.refl⟩
          · rw [x]
            exact ⟨_, _, rfl, hk8.trans z3.hk, HJ.refl⟩
      · intro j I6 hj b1 b2 b3
        have hI6 : I6 (m + 1) 0 = W 0 := by rw [b3.w, hw5]
        unfold s_X11_stays_l101_st
        dsimp only
        simp (disch := omega) only [bsome, t_ck T, t_gI T, t_pI T, t_gJ T, t_pJ T, tR_deg T, tA_deg T, tU_deg T, b1, w32_id, if_neg, t_of T, b2, t_timesM T hI6 hp, t_put T, ifT]
      · intro I6 b1 b3
        unfold s_X11_stays_l101_st
        dsimp only
        simp (disch := omega) only [bsome, t_ck T, t_gI T, t_pI T, t_gJ T, t_pJ T, tR_deg T, tA_deg T, tU_deg T, b1, w32_id, if_pos, ifT]
  · have key : s_X11_stays m s f u (sh, I, J) = s_X11_stays_b30 m s f u m (sh, thr I m 0, J) := by
      unfold s_X11_stays
      simp (disch := omega) only [t_thr T, bsome, t_ck T, e1, e1', e1'']
      by_cases h1 : 0 ≤ s ∧ s < W 3
      · rw [if_pos h1]
        by_cases h2 : 0 ≤ f ∧ f < W 1
        · rw [if_pos h2, if_neg (fun h3 => h ⟨h1, h2, h3⟩)]
          simp (disch := omega) only [w32_id, if_pos, if_neg, ifT]
          all_goals rfl
        · rw [if_neg h2]
          simp (disch := omega) only [w32_id, if_pos, if_neg, ifT]
          all_goals rfl
      · rw [if_neg h1]
        simp (disch := omega) only [w32_id, if_neg, ifT]
    rw [key]
    unfold s_X11_stays_b30 s_X11_stays_b35
    simp (disch := omega) only [t_ck T, bsome, t_if1 T, w32_id, if_neg, thr_thr, ifT]
    exact ⟨_, _, _, rfl, HK.refl, HJ.refl⟩
end TV
