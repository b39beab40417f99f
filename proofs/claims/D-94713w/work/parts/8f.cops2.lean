/-! the component: values, ranks, roots -/
set_option maxRecDepth 100000
section CP
variable {sh : Sh} {I J : Nat → Int → Int} {x : Nat} {p : Int} {W : Int → Int}
theorem xS.f {x : Nat} {I I' : Nat → Int → Int} (h : AF (xS x) I I') : I' (x + 5 + 1) = I (x + 5 + 1) := h _ (by unfold xS; omega)
/-- forms of the state stay -/
theorem xS.q {x : Nat} {I I' : Nat → Int → Int} (h : AF (xS x) I I') {q : Nat} {p d : Int} {c : Int → Int} (g : FM I q p d c) (h1 : x + 16 ≤ q) (h2 : q + 1 ≤ x + 505) : FM I' q p d c := g.keep h (by unfold xS; omega) (by unfold xS; omega)
theorem FV.keep {S : Nat → Prop} {I I' : Nat → Int → Int} {q : Nat} {o : Option Fo} (h : FV I q p o) (hF : AF S I I') (h1 : ¬ S q) (h2 : ¬ S (q + 1)) : FV I' q p o := h.eq (hF q h1) (hF (q + 1) h2)
theorem x8_sameV {q r : Nat} (F : FA sh q) (G : FA sh r) (hp : Pp p) {u v : Option Fo} (du : ∀ a, u = some a → a.1 ≤ 40) (dv : ∀ a, v = some a → a.1 ≤ 40) (hu : FV I q p u) (hv : FV I r p v) : s_X8_same q r (sh, I, J) = some (alk p u v, (sh, I, J)) := by
  cases u with
  | none => cases v with
    | none =>
      rw [x8_same F G hp (d := -1) (d2 := -1) (by omega) (by omega) hu hv]
      rfl
    | some b =>
      have := dv b rfl
      rw [x8_same F G hp (d := -1) (d2 := b.1) (by omega) (by omega) hu hv, show lkI p (-1) (fun _ => 0) b.1 b.2 = 0 from if_neg (by omega)]
      rfl
  | some a => cases v with
    | none =>
      have := du a rfl
      rw [x8_same F G hp (d := a.1) (d2 := -1) (by omega) (by omega) hu hv, show lkI p a.1 a.2 (-1) (fun _ => 0) = 0 from if_neg (by omega)]
      rfl
    | some b =>
      have := du a rfl
      have := dv b rfl
      rw [x8_same F G hp (d := a.1) (d2 := b.1) (by omega) (by omega) hu hv]
      rfl
theorem x8_beV {q r : Nat} (F : FA sh q) (G : FA sh r) (hne : q ≠ r) {o : Option Fo} (hd : ∀ v, o = some v → v.1 ≤ 40) (h : FV I r p o) : ∃ I', s_X8_be q r (sh, I, J) = some (sh, I', J) ∧ FV I' q p o ∧ AF (aF q) I I' := by
  have ap := F.ap G hne
  unfold AP at ap
  cases o with
  | none => exact x8_be F G (by omega) (show (-1 : Int) ≤ 40 by omega) h
  | some v =>
    have := hd v rfl
    exact x8_be F G (by omega) (show (v.1 : Int) ≤ 40 by omega) h
theorem x1_valueOf (L : CL sh x) (hI : I (x + 5 + 1) 0 = p) (hp : Pp p) {q a n : Nat} {t : Tr n} {F : Fo} (hF : F.1 ≤ 40) (Q : FA sh q) (hq : x + 16 ≤ q ∧ q + 1 ≤ x + 549) (hf : FM I q p F.1 F.2) (hs : SA sh I n t a) (hw : Tr.wf n t) (hl : Tr.lv n t ≤ 20) (hn : n ≤ 200) :
    ∃ I', s_X1_valueOf x a q (sh, I, J) = some (x + 550, (sh, I', J)) ∧ FV I' (x + 550) p (Tr.val F n t) ∧ AF (vS x 0) I I' := by
  obtain ⟨I', e1, e2, e3⟩ := x_val (J := J) L.cv hp hF Q n t 200 a 0 I hn hs hw (by omega) hI hf (by unfold vS; omega)
  refine ⟨I', ?_, e2, e3⟩
  have h0 : ((0 : Nat) : Int) = 0 := rfl
  rw [h0] at e1
  have e4 := c_shelf (I := I') (J := J) L.cv (k := 0) (by omega)
  rw [h0] at e4
  unfold s_X1_valueOf
  rw [e1, bsome, l_sv L, bsome, e4, bsome]
theorem vS_x {x : Nat} {I I' : Nat → Int → Int} (h : AF (vS x 0) I I') : AF (xS x) I I' := h.mono (fun a ha => by unfold vS at ha; unfold xS; omega)
theorem SR.sg (hS : SR sh I (x + 16) W) {s : Int} (h0 : 0 ≤ s) (h1 : s < W 3) : ∃ (t : TT) (a : Nat), sh.2.2.2 (x + 16 + 11) s = some a ∧ SgW W s t.1 t.2 ∧ SA sh I t.1 t.2 a ∧ t.1 ≤ 200 := by
  have := hS.2.2.2.1 s.toNat (by omega)
  rw [Int.toNat_of_nonneg h0] at this
  exact this
/-- signs stay where only scratch moves -/
theorem CL.xt (L : CL sh x) {a : Nat} (h : xS x a) : sh.2.1 a = 6 ∨ sh.2.1 a = 101 ∨ sh.2.1 a = 105 := by
  have D := L.dl
  have L0 := L
  obtain ⟨-, -, -, -, ⟨-, h5⟩, ⟨-, h6⟩, ⟨-, h7⟩, ⟨-, h8⟩, ⟨-, h9, h9', -⟩, ⟨-, h10, h10'⟩, ⟨-, h11⟩, ⟨-, h12⟩, -, -, -, h15⟩ := L
  have ff : ∀ q, FA sh q → ∀ b, (b = q ∨ b = q + 1) → sh.2.1 b = 6 ∨ sh.2.1 b = 101 ∨ sh.2.1 b = 105 := by
    rintro q F b (rfl | rfl)
    · exact Or.inl F.1
    · exact Or.inr (Or.inl F.2.2.1)
  have cv := L0.1
  rcases h with h | h | h | h | h | h
  · have := cv.vt (s := 0) (a := a) (Or.inl (by omega))
    omega
  · have : (a = x + 507 ∨ a = x + 507 + 1) ∨ (a = x + 509 ∨ a = x + 509 + 1) ∨ (a = x + 511 ∨ a = x + 511 + 1) ∨ (a = x + 513 ∨ a = x + 513 + 1) := by omega
    rcases this with e | e | e | e
    · exact ff _ h5 _ e
    · exact ff _ h6 _ e
    · exact ff _ h7 _ e
    · exact ff _ h8 _ e
  · have := (h9' (a - (x + 516)) (by omega)).1
    rw [show x + 516 + (a - (x + 516)) = a by omega] at this
    exact Or.inr (Or.inl this)
  · by_cases e : a ≤ x + 544
    · have := (h10' (a - (x + 525)) (by omega)).2.1
      rw [show x + 525 + (a - (x + 525)) = a by omega] at this
      exact Or.inr (Or.inl this)
    · by_cases e2 : a = x + 545
      · rw [e2]
        exact Or.inr (Or.inl h11.1)
      · rw [show a = x + 546 by omega]
        exact Or.inr (Or.inl h12.1)
  · rw [h]
    exact Or.inr (Or.inl h15.1)
  · have := cv.vt (s := 0) (a := a) (Or.inr (by omega))
    omega
theorem CL.sa (L : CL sh x) {I I' : Nat → Int → Int} (h : AF (xS x) I I') {n : Nat} {t : Tr n} {a : Nat} (g : SA sh I n t a) : SA sh I' n t a :=
  SA.keep (fun b hb => h b (fun e => by have := L.xt e; omega)) n t a g
theorem x_value (L : CL sh x) (R : Room sh) (hS : SR sh I (x + 16) W) (hI : I (x + 5 + 1) 0 = W 0) (hW : WI W) {s f k : Int} (hs : i32 s) (hf : i32 f) (hk : i32 k) :
    ((0 ≤ s ∧ s < W 3) → (0 ≤ f ∧ f < W 1) → ∃ t : TT, SgW W s t.1 t.2 ∧ CG (s_X1_value x s f k (sh, I, J)) sh I J x (vlP (W 0) k (Tr.val (fF W f) t.1 t.2))) ∧
    (¬((0 ≤ s ∧ s < W 3) ∧ (0 ≤ f ∧ f < W 1)) → CB (s_X1_value x s f k (sh, I, J)) sh I J 3) := by
  have hc1 := hW.c1
  have hc3 := hW.c3
  obtain ⟨y1, y2⟩ := x1_formAt (J := J) L R (n := W 1) hS.1.1.2.1 (by omega) hf
  obtain ⟨z1, z2⟩ := x1_signAt (J := J) L R (n := W 3) hS.1.1.2.2.2 (by omega) hs
  unfold s_X1_value
  rw [l_ck L, bsome]
  refine ⟨fun h g => ?_, fun h => ?_⟩
  · obtain ⟨t, a, t1, t2, t3, t4⟩ := hS.sg h.1 h.2
    refine ⟨t, t2, ?_⟩
    obtain ⟨g1, g2⟩ := hS.ff hW g.1 g.2
    obtain ⟨I1, e1, e2, e3⟩ := x1_valueOf (J := J) L hI hW.pp (F := fF W f) (by omega) (L.q (k := f) (by omega)) (by omega) g1 t3 t2.2.2.2.1 t2.2.2.2.2 t4
    have G := L.cv.fs (k := 0) (by omega)
    refine ⟨I1, ?_, vS_x e3⟩
    rw [z1 h a t1, xb_r, l_ck L, bsome, y1 g, xb_r, l_ck L, bsome, e1, bsome]
    dsimp only
    rw [f_ck G, bsome, x8_val1 G (fun v h => Tr.val_d (by omega) _ _ v h) e2, bsome]
    dsimp only
    cases hv : Tr.val (fF W f) t.1 t.2 with
    | none =>
      rw [if_pos rfl, if_pos (show w32 0 = 0 from rfl)]
      rfl
    | some v =>
      rw [hv] at e2
      have := Tr.val_d (F := fF W f) (by omega) _ _ v hv
      rw [if_neg (show ¬ (some v = none) by simp), if_neg (show ¬ w32 1 = 0 by decide), x1_tells G (d := v.1) (c := v.2) (p := W 0) (by omega) hk e2, bsome]
      rfl
  · by_cases g : 0 ≤ s ∧ s < W 3
    · obtain ⟨t, a, t1, t2, t3, t4⟩ := hS.sg g.1 g.2
      have := y2 (fun e => h ⟨g, e⟩)
      unfold CB at this ⊢
      rw [z1 g a t1, xb_r, l_ck L, bsome, this, xb_l]
    · have := z2 g
      unfold CB at this ⊢
      rw [this, xb_l]
theorem x_rank (L : CL sh x) (R : Room sh) (hS : SR sh I (x + 16) W) (hW : WI W) {s w : Int} (hs : i32 s) (hw : w = 0 ∨ w = 1) :
    ((0 ≤ s ∧ s < W 3) → ∃ t : TT, SgW W s t.1 t.2 ∧ CG (s_X1_rank x s w (sh, I, J)) sh I J x (Tr.rk w t.1 t.2)) ∧ (¬(0 ≤ s ∧ s < W 3) → CB (s_X1_rank x s w (sh, I, J)) sh I J 3) := by
  have hc3 := hW.c3
  obtain ⟨z1, z2⟩ := x1_signAt (J := J) L R (n := W 3) hS.1.1.2.2.2 (by omega) hs
  unfold s_X1_rank
  rw [l_ck L, bsome]
  refine ⟨fun h => ?_, fun h => ?_⟩
  · obtain ⟨t, a, t1, t2, t3, t4⟩ := hS.sg h.1 h.2
    refine ⟨t, t2, CG.of ?_⟩
    have := t2.2.2.2.2
    rw [z1 h a t1, xb_r, x_rnk hw t.1 t.2 200 a t4 t3 t2.2.2.2.1 (by omega), bsome]
  · have := z2 h
    unfold CB at this ⊢
    rw [this, xb_l]
theorem x_root (L : CL sh x) (R : Room sh) (hS : SR sh I (x + 16) W) (hI : I (x + 5 + 1) 0 = W 0) (hW : WI W) {f t : Int} (hf : i32 f) (ht : i32 t) :
    ((0 ≤ f ∧ f < W 1) → (0 ≤ t ∧ t ≤ W 0) → CG (s_X1_root x f t (sh, I, J)) sh I J x (rtP (W 0) (fF W f) t)) ∧ (¬(0 ≤ f ∧ f < W 1) → CB (s_X1_root x f t (sh, I, J)) sh I J 3) ∧
    ((0 ≤ f ∧ f < W 1) → ¬(0 ≤ t ∧ t ≤ W 0) → CB (s_X1_root x f t (sh, I, J)) sh I J 0) := by
  have hc1 := hW.c1
  have hb := hW.pp.b
  have D := L.dl
  unfold i32 at ht
  obtain ⟨y1, y2⟩ := x1_formAt (J := J) L R (n := W 1) hS.1.1.2.1 (by omega) hf
  have run : (0 ≤ f ∧ f < W 1) → s_X1_root x f t (sh, I, J) = xb (s_X1_must (if 0 ≤ t ∧ t ≤ W 0 then 1 else 0) (sh, I, J)) (fun e9 => some (.inl e9)) fun q8 => (gR q8 0 x 1).bind fun v10 => (ck q8 4 v10).bind fun _ => (s_X6_root v10 (x + 16 + 13 + 2 * f.toNat) t q8).bind fun q11 => some (.inr (q11.1, q11.2)) := by
    intro h
    unfold s_X1_root
    rw [l_ck L, bsome, y1 h, xb_r, l_dk L, bsome, d_f D, bsome, gI_m D.ff, bsome, hI, w32_id ht.1 ht.2, w32_id (x := W 0) (by omega) (by omega), x1_isIn (by omega) (by omega) (by omega), bsome]
  refine ⟨fun h g => ?_, fun h => ?_, fun h g => ?_⟩
  · rw [run h, if_pos g, x1_must1, xb_r, l_dk L, bsome, d_ck D, bsome]
    obtain ⟨g1, g2⟩ := hS.ff hW h.1 h.2
    obtain ⟨I1, e1, e2⟩ := x6_root (J := J) D hI hW.pp (L.q (k := f) (by omega)) (by omega) (show (fF W f).1 ≤ 40 by omega) g g1
    exact ⟨I1, by rw [e1, bsome], e2.mono (fun a ha => by unfold xS; omega)⟩
  · have := y2 h
    unfold s_X1_root
    rw [l_ck L, bsome]
    unfold CB at this ⊢
    rw [this, xb_l]
  · unfold CB
    rw [run h, if_neg g, x1_must0 R, xb_l]
theorem x_roots (L : CL sh x) (R : Room sh) (hS : SR sh I (x + 16) W) (hI : I (x + 5 + 1) 0 = W 0) (hW : WI W) {f : Int} (hf : i32 f) :
    ((0 ≤ f ∧ f < W 1) → CG (s_X1_roots x f (sh, I, J)) sh I J x (rsB (W 0) (fF W f) (W 0 + 1).toNat)) ∧ (¬(0 ≤ f ∧ f < W 1) → CB (s_X1_roots x f (sh, I, J)) sh I J 3) := by
  have hc1 := hW.c1
  have hb := hW.pp.b
  have D := L.dl
  obtain ⟨y1, y2⟩ := x1_formAt (J := J) L R (n := W 1) hS.1.1.2.1 (by omega) hf
  unfold s_X1_roots
  rw [l_ck L, bsome]
  refine ⟨fun h => ?_, fun h => ?_⟩
  · obtain ⟨g1, g2⟩ := hS.ff hW h.1 h.2
    have hQ := L.q (k := f) (by omega)
    rw [y1 h, xb_r]
    obtain ⟨q, hq⟩ : ∃ q, x + 16 + 13 + 2 * f.toNat = q := ⟨_, rfl⟩
    obtain ⟨F, hF⟩ : ∃ F, fF W f = F := ⟨_, rfl⟩
    rw [hq] at g1 hQ ⊢
    rw [hF] at g1 g2 ⊢
    unfold s_X1_roots_l11
    have hlp := whileO_for (f := fun s : Int × Int × Me => s_X1_roots_l11_st x q s.1 s.2.1 s.2.2) (W 0 + 1).toNat (fun i s => ∃ I', s = (rsB (W 0) F i, (i : Int), ((sh, I', J) : Me)) ∧ AF (xS x) I I')
      (fun r => ∃ I', r = Sum.inr (rsB (W 0) F (W 0 + 1).toNat, ((sh, I', J) : Me)) ∧ AF (xS x) I I') ?_ ?_ (0, 0, (sh, I, J)) ⟨_, rfl, AF.refl⟩
    · obtain ⟨r, hr, I', hr2, k2⟩ := hlp
      exact ⟨I', by rw [hr, hr2], k2⟩
    · rintro i s hi ⟨I4, rfl, k4⟩
      have hI4 : I4 (x + 5 + 1) 0 = W 0 := by rw [xS.f k4]; exact hI
      obtain ⟨I5, e5, f5⟩ := x6_root (J := J) D hI4 hW.pp hQ (by omega) (show F.1 ≤ 40 by omega) (t := (i : Int)) (by omega) (xS.q k4 g1 (by omega) (by omega))
      have hrb := rtP_b (W 0) F i (by omega)
      replace e5 : s_X6_root (x + 5) q i (sh, I4, J) = some (rtP (W 0) F i, (sh, I5, J)) := e5
      unfold s_X1_roots_l11_st
      dsimp only
      rw [l_dk L, bsome, d_f D, bsome, gI_m D.ff, bsome, hI4, w32_id (x := W 0) (by omega) (by omega), w32_id (x := (i : Int)) (by omega) (by omega), if_neg (by omega), bsome, d_ck D, bsome, e5, bsome]
      dsimp only
      rw [w32_id (by omega) (by omega)]
      by_cases h9 : rtP (W 0) F i ≤ 0
      · rw [if_pos h9]
        refine ⟨_, rfl, I5, ?_, k4.trans (f5.mono (fun a ha => by unfold xS; omega))⟩
        show _ = (orI (rsB (W 0) F i) (if 0 < rtP (W 0) F i then slI 1 i else 0), _, _)
        rw [if_neg (by omega)]
        simp
      · rw [if_neg h9]
        refine ⟨_, rfl, I5, ?_, k4.trans (f5.mono (fun a ha => by unfold xS; omega))⟩
        show _ = (orI (rsB (W 0) F i) (if 0 < rtP (W 0) F i then slI 1 i else 0), _, _)
        rw [if_pos (by omega)]
        simp
    · rintro s ⟨I4, rfl, k4⟩
      have hI4 : I4 (x + 5 + 1) 0 = W 0 := by rw [xS.f k4]; exact hI
      unfold s_X1_roots_l11_st
      dsimp only
      rw [l_dk L, bsome, d_f D, bsome, gI_m D.ff, bsome, hI4, w32_id (x := W 0) (by omega) (by omega), w32_id (by omega) (by omega), if_pos (by omega)]
      exact ⟨_, rfl, I4, rfl, k4⟩
  · have := y2 h
    unfold CB at this ⊢
    rw [this, xb_l]
theorem x_empty (L : CL sh x) (R : Room sh) (hS : SR sh I (x + 16) W) (hI : I (x + 5 + 1) 0 = W 0) (hW : WI W) {f : Int} (hf : i32 f) :
    ((0 ≤ f ∧ f < W 1) → CG (s_X1_empty x f (sh, I, J)) sh I J x (emB (W 0) (fF W f) (W 0 + 1).toNat)) ∧ (¬(0 ≤ f ∧ f < W 1) → CB (s_X1_empty x f (sh, I, J)) sh I J 3) := by
  have hc1 := hW.c1
  have hb := hW.pp.b
  have D := L.dl
  obtain ⟨y1, y2⟩ := x1_formAt (J := J) L R (n := W 1) hS.1.1.2.1 (by omega) hf
  unfold s_X1_empty
  rw [l_ck L, bsome]
  refine ⟨fun h => ?_, fun h => ?_⟩
  · obtain ⟨g1, g2⟩ := hS.ff hW h.1 h.2
    have hQ := L.q (k := f) (by omega)
    rw [y1 h, xb_r]
    obtain ⟨q, hq⟩ : ∃ q, x + 16 + 13 + 2 * f.toNat = q := ⟨_, rfl⟩
    obtain ⟨F, hF⟩ : ∃ F, fF W f = F := ⟨_, rfl⟩
    rw [hq] at g1 hQ ⊢
    rw [hF] at g1 g2 ⊢
    unfold s_X1_empty_l11
    have hlp := whileO_for (f := fun s : Int × Int × Me => s_X1_empty_l11_st x q s.1 s.2.1 s.2.2) (W 0 + 1).toNat (fun i s => ∃ I', s = (emB (W 0) F i, (i : Int), ((sh, I', J) : Me)) ∧ AF (xS x) I I')
      (fun r => ∃ I', r = Sum.inr (emB (W 0) F (W 0 + 1).toNat, ((sh, I', J) : Me)) ∧ AF (xS x) I I') ?_ ?_ (0, 0, (sh, I, J)) ⟨_, rfl, AF.refl⟩
    · obtain ⟨r, hr, I', hr2, k2⟩ := hlp
      exact ⟨I', by rw [hr, hr2], k2⟩
    · rintro i s hi ⟨I4, rfl, k4⟩
      have hI4 : I4 (x + 5 + 1) 0 = W 0 := by rw [xS.f k4]; exact hI
      have g4 := xS.q k4 g1 (by omega) (by omega)
      obtain ⟨I5, e5, f5⟩ := x6_root (J := J) D hI4 hW.pp hQ (by omega) (show F.1 ≤ 40 by omega) (t := (i : Int)) (by omega) g4
      have f5 : AF (xS x) I4 I5 := f5.mono (fun a ha => by unfold xS; omega)
      have hrb := rtP_b (W 0) F i (by omega)
      replace e5 : s_X6_root (x + 5) q i (sh, I4, J) = some (rtP (W 0) F i, (sh, I5, J)) := e5
      unfold s_X1_empty_l11_st
      dsimp only
      rw [l_dk L, bsome, d_f D, bsome, gI_m D.ff, bsome, hI4, w32_id (x := W 0) (by omega) (by omega), w32_id (x := (i : Int)) (by omega) (by omega), if_neg (by omega)]
      have eN : emB (W 0) F (i + 1) = if emB (W 0) F i = 1 then 1 else if (F.1 : Int) < 2 * rtP (W 0) F i then 1 else 0 := rfl
      rcases emB_b (W 0) F i with h0 | h0
      · rw [h0] at eN ⊢
        rw [if_neg (by decide)] at eN
        rw [if_pos (show w32 0 = 0 from rfl), bsome, d_ck D, bsome, e5, bsome]
        dsimp only
        rw [f_gI hQ, bsome, (xS.q f5 g4 (by omega) (by omega)).1, w32_id (x := (F.1 : Int)) (by omega) (by omega), w32_id (by omega) (by omega)]
        by_cases h9 : 2 * rtP (W 0) F i ≤ F.1
        · rw [if_pos h9]
          rw [if_neg (by omega)] at eN
          exact ⟨_, rfl, I5, by rw [eN]; simp, k4.trans f5⟩
        · rw [if_neg h9]
          rw [if_pos (by omega)] at eN
          exact ⟨_, rfl, I5, by rw [eN]; simp, k4.trans f5⟩
      · rw [h0] at eN ⊢
        rw [if_pos rfl] at eN
        rw [if_neg (show ¬ w32 1 = 0 by decide)]
        exact ⟨_, rfl, I4, by rw [eN]; simp, k4⟩
    · rintro s ⟨I4, rfl, k4⟩
      have hI4 : I4 (x + 5 + 1) 0 = W 0 := by rw [xS.f k4]; exact hI
      unfold s_X1_empty_l11_st
      dsimp only
      rw [l_dk L, bsome, d_f D, bsome, gI_m D.ff, bsome, hI4, w32_id (x := W 0) (by omega) (by omega), w32_id (by omega) (by omega), if_pos (by omega), bz2_m (emB_b _ _ _), bsome]
      exact ⟨_, rfl, I4, rfl, k4⟩
  · have := y2 h
    unfold CB at this ⊢
    rw [this, xb_l]
end CP
