/-! the component: the values of signs -/
set_option maxRecDepth 100000
/-- signs lie at a -/
def SA (sh : Sh) (I : Nat → Int → Int) : (n : Nat) → Tr n → Nat → Prop
  | 0, t, _ => Empty.elim t
  | _ + 1, .inl _, a => sh.2.1 a = 2
  | _ + 1, .inr (.inl v), a => sh.2.1 a = 10 ∧ I a 0 = v
  | n + 1, .inr (.inr (.inl t)), a => sh.2.1 a = 11 ∧ ∃ b, sh.2.2.2 a 0 = some b ∧ SA sh I n t b
  | n + 1, .inr (.inr (.inr (o, t1, t2))), a => (sh.2.1 a = (if o.1 = 2 then 14 else if o.1 = 3 then 13 else 12) ∧ (o.1 = 4 → I a 2 = o.2)) ∧ ∃ b c, (sh.2.2.2 a 0 = some b ∧ sh.2.2.2 a 1 = some c) ∧ SA sh I n t1 b ∧ SA sh I n t2 c
theorem SA.keep {sh : Sh} {I I' : Nat → Int → Int} (h : ∀ a, sh.2.1 a = 10 ∨ sh.2.1 a = 12 → I' a = I a) : ∀ (n : Nat) (t : Tr n) (a : Nat), SA sh I n t a → SA sh I' n t a
  | 0, t, _, _ => Empty.elim t
  | _ + 1, .inl _, a, g => g
  | _ + 1, .inr (.inl v), a, g => ⟨g.1, by rw [h a (Or.inl g.1)]; exact g.2⟩
  | n + 1, .inr (.inr (.inl t)), a, ⟨g1, b, g2, g3⟩ => ⟨g1, b, g2, SA.keep h n t b g3⟩
  | n + 1, .inr (.inr (.inr (o, t1, t2))), a, ⟨⟨g1, g2⟩, b, c, g3, g4, g5⟩ => ⟨⟨g1, fun e => by
      rw [h a (Or.inr (by rw [g1, e]; rfl))]
      exact g2 e⟩, b, c, g3, SA.keep h n t1 b g4, SA.keep h n t2 c g5⟩
/-- what of the component signs need -/
def CV (sh : Sh) (x : Nat) : Prop := sh.2.1 x = 0 ∧ (sh.2.2.2 x 1 = some (x + 5) ∧ DL sh (x + 5)) ∧ (sh.2.2.2 x 4 = some (x + 506) ∧ sh.2.1 (x + 506) = 104 ∧ sh.2.2.1 (x + 506) = 64) ∧ ∀ k : Nat, k < 64 → sh.2.2.2 (x + 506) k = some (x + 550 + 2 * k) ∧ FA sh (x + 550 + 2 * k)
/-- a value on a shelf -/
def FV (I : Nat → Int → Int) (q : Nat) (p : Int) : Option Fo → Prop
  | some v => FM I q p v.1 v.2
  | none => FM I q p (-1) (fun _ => 0)
/-- what values touch: the desk's own, shelves from the s-th on -/
def vS (x s a : Nat) : Prop := dS (x + 5) a ∨ (x + 550 + 2 * s ≤ a ∧ a ≤ x + 677)
theorem FV.eq {I I' : Nat → Int → Int} {q : Nat} {p : Int} {o : Option Fo} (h : FV I q p o) (h1 : I' q = I q) (h2 : I' (q + 1) = I (q + 1)) : FV I' q p o := by
  cases o with
  | none => exact FM.eq h h1 h2
  | some v => exact FM.eq h h1 h2
section CS
variable {sh : Sh} {I J : Nat → Int → Int} {x d : Nat} {p : Int}
theorem CV.dl (C : CV sh x) : DL sh (x + 5) := C.2.1.2
theorem CV.fs (C : CV sh x) {k : Nat} (h : k < 64) : FA sh (x + 550 + 2 * k) := (C.2.2.2 k h).2
theorem c_desk (C : CV sh x) : gR (sh, I, J) 0 x 1 = some (x + 5) := gR_m C.1 C.2.1.1
theorem c_shv (C : CV sh x) : gR (sh, I, J) 0 x 4 = some (x + 506) := gR_m C.1 C.2.2.1.1
theorem c_shelf (C : CV sh x) {k : Nat} (h : k < 64) : aR (sh, I, J) 104 (x + 506) k = some (x + 550 + 2 * k) := by
  obtain ⟨-, -, ⟨-, h1, h2⟩, h3⟩ := C
  unfold aR
  rw [w32_id (by omega) (by omega), if_pos ⟨h1, by omega, by show (k : Int) < sh.2.2.1 (x + 506); omega⟩]
  exact (h3 k h).1
theorem CV.vt (C : CV sh x) {s a : Nat} (h : vS x s a) : sh.2.1 a = 6 ∨ sh.2.1 a = 101 := by
  have D := C.dl
  have h1 := D.fone
  have h2 := D.ftwo
  have h3 := D.fleft
  have h4 := D.fright
  have h5 := D.2.2.2.2.2.2.2.1
  rcases h with ⟨g1, g2⟩ | ⟨g1, g2⟩
  · have : a = x + 5 + 2 ∨ a = x + 5 + 3 ∨ a = x + 5 + 4 ∨ a = x + 5 + 5 ∨ a = x + 5 + 6 ∨ a = x + 5 + 7 ∨ a = x + 5 + 8 ∨ a = x + 5 + 9 ∨ a = x + 5 + 10 := by omega
    rcases this with e | e | e | e | e | e | e | e | e <;> rw [e]
    · exact Or.inl h1.1
    · exact Or.inr h1.2.2.1
    · exact Or.inl h2.1
    · exact Or.inr h2.2.2.1
    · exact Or.inl h3.1
    · exact Or.inr h3.2.2.1
    · exact Or.inl h4.1
    · exact Or.inr h4.2.2.1
    · exact Or.inr h5
  · have F := C.fs (k := (a - x - 550) / 2) (by omega)
    by_cases e : (a - x - 550) % 2 = 0
    · left
      have := F.1
      rw [show x + 550 + 2 * ((a - x - 550) / 2) = a by omega] at this
      exact this
    · right
      have := F.2.2.1
      rw [show x + 550 + 2 * ((a - x - 550) / 2) + 1 = a by omega] at this
      exact this
theorem CV.sa (C : CV sh x) {s : Nat} {I I' : Nat → Int → Int} (h : AF (vS x s) I I') {n : Nat} {t : Tr n} {a : Nat} (g : SA sh I n t a) : SA sh I' n t a :=
  SA.keep (fun b hb => h b (fun e => by have := C.vt e; omega)) n t a g
theorem x7_neg (hf : sh.2.1 d = 5) (hI : I d 0 = p) (hp : Pp p) (a : Int) : s_X7_of d (w32 (-(a % p))) (sh, I, J) = some ((0 - a) % p, (sh, I, J)) := by
  have h1 := emod_b hp a
  have h3 := hp.b
  rw [w32_id (by omega) (by omega), x7_of hf hI hp (by omega) (by omega), Int.sub_emod, Int.zero_emod]
  congr 2
  rw [show -(a % p) = 0 - a % p by omega]
theorem x13_l21 (C : CV sh x) (hI : I (x + 5 + 1) 0 = p) (hp : Pp p) {q : Nat} {n : Int} {c : Int → Int} (F : FA sh q) (hn : -1 ≤ n ∧ n ≤ 40) (hc : FM I q p n c) {R : Nat → Nat → Nat → Int → Me → Option Me} :
    ∃ I', s_X13_value_l21 R x q 0 (sh, I, J) = some (sh, I', J) ∧ FM I' q p n (fun k => 0 - c k) ∧ AF (aF q) I I' := by
  have D := C.dl
  have nn := D.nf F
  unfold s_X13_value_l21
  refine ex_g (fun I' => ((sh, I', J) : Me)) (whileO_for (n + 1).toNat
    (fun j s => ∃ I', s = ((j : Int), ((sh, I', J) : Me)) ∧ I' q 1 = n ∧ (∀ k : Int, 0 ≤ k → k < j → I' (q + 1) k = (0 - c k) % p) ∧ (∀ k : Int, j ≤ k → k ≤ n → I' (q + 1) k = c k % p) ∧ AF (aF q) I I')
    _ ?_ ?_ _ ?_)
  · rintro j s hj ⟨I3, rfl, a1, a2, a3, a4⟩
    have b1 := a3 j (by omega) (by omega)
    have hp3 : I3 (x + 5 + 1) 0 = p := by rw [a4 (x + 5 + 1) (by omega)]; exact hI
    obtain ⟨I4, e2, k1, k2, k3, k4⟩ := f_put (I := I3) (J := J) F (k := j) (v := (0 - c j) % p) (by omega) (by omega)
    refine ⟨((j : Int) + 1, (sh, I4, J)), ?_, I4, by simp, by rw [k2]; exact a1, fun l y z => ?_, fun l y z => ?_, a4.trans k4⟩
    · unfold s_X13_value_l21_st
      dsimp only
      simp (disch := omega) only [bsome, c_desk C, d_ck D, d_f D, d_one D, d_two D, d_left D, d_right D, d_cho D, dc_a D, dc_u D, d_ckf D, f_gI F, f_gR F, f_aI F, a1, w32_id (x := n), w32_id (x := (j : Int)), if_neg, b1, x7_neg D.ff hp3 hp, e2, ifT]
    · by_cases e : l = j
      · rw [e, k1]
      · rw [k3 _ (by omega)]
        exact a2 l y (by omega)
    · rw [k3 _ (by omega)]
      exact a3 l (by omega) z
  · rintro s ⟨I3, rfl, a1, a2, a3, a4⟩
    unfold s_X13_value_l21_st
    dsimp only
    simp (disch := omega) only [bsome, f_gI F, a1, w32_id, if_pos, ifT]
    exact ⟨_, rfl, I3, rfl, ⟨a1, fun l y z => a2 l y (by omega)⟩, a4⟩
  · exact ⟨I, rfl, hc.1, fun l y z => absurd z (by omega), fun l y z => hc.2 l (by omega) z, AF.refl⟩
theorem x17_joins (D : DL sh d) (hI : I (d + 1) 0 = p) (hp : Pp p) {o qa qb : Nat} {a b : Fo} (F1 : FA sh qa) (F2 : FA sh qb) (hq : qa ≠ qb) (ha : a.1 ≤ 40) (hb : b.1 ≤ 40) (hA : FM I qa p a.1 a.2) (hB : FM I qb p b.1 b.2) {y : Int} :
    ∃ I', s_X17_joins o d qa qb (sh, I, J) = some (sh, I', J) ∧ FV I' qa p (jnV (2, y) a b) ∧ AF (fun i => dS d i ∨ aF qa i) I I' := by
  have nn := D.nf F1
  have ap := F1.ap F2 hq
  unfold AP at ap
  unfold s_X17_joins
  rw [f_gI F1, bsome, f_gI F2, bsome, hA.1, hB.1, w32_id (x := (a.1 : Int)) (by omega) (by omega), w32_id (x := (b.1 : Int)) (by omega) (by omega)]
  have e9 : jnV (2, y) a b = if a.1 = b.1 then some (a.1, fun k => a.2 k + b.2 k) else none := if_pos rfl
  rw [e9]
  by_cases h : a.1 = b.1
  · rw [if_pos h, if_pos (by omega)]
    unfold s_X17_joins_l19
    refine ex_g (fun I' => ((sh, I', J) : Me)) (whileO_for (a.1 + 1)
      (fun j s => ∃ I', s = ((j : Int), ((sh, I', J) : Me)) ∧ I' qa 1 = a.1 ∧ (∀ k : Int, 0 ≤ k → k < j → I' (qa + 1) k = (a.2 k + b.2 k) % p) ∧ (∀ k : Int, j ≤ k → k ≤ a.1 → I' (qa + 1) k = a.2 k % p) ∧ AF (fun i => dS d i ∨ aF qa i) I I' ∧ AF (aF qa) I I')
      _ ?_ ?_ _ ?_)
    · rintro j s hj ⟨I3, rfl, a1, a2, a3, a4, a5⟩
      have b1 := a3 j (by omega) (by omega)
      have b2 := (hB.keep a5 (by omega) (by omega)).2 j (by omega) (by omega)
      have hp3 : I3 (d + 1) 0 = p := by rw [a5 (d + 1) (by omega)]; exact hI
      obtain ⟨I4, e2, k1, k2, k3, k4⟩ := f_put (I := I3) (J := J) F1 (k := j) (v := (a.2 j + b.2 j) % p) (by omega) (by omega)
      refine ⟨((j : Int) + 1, (sh, I4, J)), ?_, I4, by simp, by rw [k2]; exact a1, fun l y z => ?_, fun l y z => ?_, a4.trans (k4.mono (fun _ => Or.inr)), a5.trans k4⟩
      · unfold s_X17_joins_l19_st
        dsimp only
        simp (disch := omega) only [bsome, d_ck D, d_f D, d_one D, d_two D, d_left D, d_right D, d_cho D, dc_a D, dc_u D, d_ckf D, f_gI F1, f_gR F1, f_aI F1, f_gR F2, f_aI F2, a1, w32_id (x := (a.1 : Int)), w32_id (x := (j : Int)), if_neg, b1, b2, x7_add D.ff hp3 hp, e2, ifT]
      · by_cases e : l = j
        · rw [e, k1]
        · rw [k3 _ (by omega)]
          exact a2 l y (by omega)
      · rw [k3 _ (by omega)]
        exact a3 l (by omega) z
    · rintro s ⟨I3, rfl, a1, a2, a3, a4, a5⟩
      unfold s_X17_joins_l19_st
      dsimp only
      simp (disch := omega) only [bsome, f_gI F1, a1, w32_id, if_pos, ifT]
      exact ⟨_, rfl, I3, rfl, ⟨a1, fun l y z => a2 l y (by omega)⟩, a4⟩
    · exact ⟨I, rfl, hA.1, fun l y z => absurd z (by omega), fun l y z => hA.2 l (by omega) z, AF.refl, AF.refl⟩
  · rw [if_neg h, if_neg (by omega), f_ck F1, bsome]
    obtain ⟨I1, e1, e2, e4, e3⟩ := x8_nought (I := I) (J := J) F1 p (d := -1) (by omega)
    rw [e1, bsome]
    refine ⟨I1, ?_, e2, e3.mono (fun _ => Or.inr)⟩
    unfold s_X17_joins_l19
    rw [whileO_eq]
    unfold s_X17_joins_l19_st
    dsimp only
    simp (disch := omega) only [bsome, f_gI F1, e2.1, w32_id, if_pos, ifT]
    rfl
theorem x16_joins (D : DL sh d) (hI : I (d + 1) 0 = p) (hp : Pp p) {o qa qb : Nat} {a b : Fo} (F1 : FA sh qa) (F2 : FA sh qb) (n1 : qa ≠ d + 2) (n2 : qb ≠ d + 2) (ha : a.1 ≤ 40) (hb : b.1 ≤ 40) (hA : FM I qa p a.1 a.2) (hB : FM I qb p b.1 b.2) {y : Int} :
    ∃ I', s_X16_joins o d qa qb (sh, I, J) = some (sh, I', J) ∧ FV I' qa p (jnV (3, y) a b) ∧ AF (fun i => dS d i ∨ aF qa i) I I' := by
  have nn := D.nf D.fone
  have e9 : jnV (3, y) a b = if a.1 + b.1 ≤ 40 then some (a.1 + b.1, mulP a.1 a.2 (cl b.1 b.2)) else none := rfl
  obtain ⟨y1, y2⟩ := x6_product (J := J) D hI hp F1 F2 F1 n1 n2 n1 ha hb hA hB.cl (Sup.cl _ _)
  unfold s_X16_joins
  rw [d_ck D, bsome, e9]
  by_cases h : a.1 + b.1 ≤ 40
  · obtain ⟨I1, e1, e2, e3⟩ := y1 h
    rw [if_pos h, e1, bsome]
    refine ⟨I1, rfl, ?_, e3.mono (fun i hi => by omega)⟩
    show FM I1 qa p ((a.1 + b.1 : Nat) : Int) (mulP a.1 a.2 (cl b.1 b.2))
    rw [Int.natCast_add]
    exact e2
  · obtain ⟨I1, e1, e2, e3⟩ := y2 (by omega)
    rw [if_neg h, e1, bsome]
    exact ⟨I1, rfl, e2, e3.mono (fun i hi => by omega)⟩
theorem x15_joins (D : DL sh d) (hI : I (d + 1) 0 = p) (hp : Pp p) {o qa qb : Nat} {a b : Fo} {y : Int} (ho : sh.2.1 o = 12 ∧ I o 2 = y) (hy : 0 ≤ y ∧ y ≤ 8) (F1 : FA sh qa) (F2 : FA sh qb) (n1 : qa ≠ d + 2 ∧ qa ≠ d + 4 ∧ qa ≠ d + 6 ∧ qa ≠ d + 8) (n2 : qb ≠ d + 2 ∧ qb ≠ d + 4 ∧ qb ≠ d + 6 ∧ qb ≠ d + 8) (ha : a.1 ≤ 40) (hb : b.1 ≤ 40) (hA : FM I qa p a.1 a.2) (hB : FM I qb p b.1 b.2) :
    ∃ I', s_X15_joins o d qa qb (sh, I, J) = some (sh, I', J) ∧ FV I' qa p (jnV (4, y) a b) ∧ AF (fun i => dS d i ∨ aF qa i) I I' := by
  obtain ⟨k, hk⟩ : ∃ k : Nat, y = k := ⟨y.toNat, by omega⟩
  have e9 : jnV (4, y) a b = if y ≤ a.1 ∧ y ≤ b.1 ∧ (a.1 : Int) + b.1 - 2 * y ≤ 40 then some (((a.1 : Int) + b.1 - 2 * y).toNat, ovP a.1 b.1 y.toNat a.2 b.2) else none := rfl
  obtain ⟨y1, y2⟩ := x6_overlap (J := J) (k := k) D hI hp F1 F2 F1 n1 n2 n1 (by omega) ha hb hA hB
  unfold s_X15_joins
  rw [gI_m ho.1, bsome, ho.2, d_ck D, bsome, e9, hk]
  by_cases h : k ≤ a.1 ∧ k ≤ b.1 ∧ a.1 + b.1 - 2 * k ≤ 40
  · obtain ⟨I1, e1, e2, e3⟩ := y1 h
    rw [if_pos (by omega), e1, bsome]
    refine ⟨I1, rfl, ?_, e3⟩
    show FM I1 qa p (((a.1 : Int) + b.1 - 2 * k).toNat : Int) (ovP a.1 b.1 (k : Int).toNat a.2 b.2)
    rw [Int.toNat_of_nonneg (by omega), Int.toNat_natCast]
    exact e2
  · obtain ⟨I1, e1, e2, e3⟩ := y2 h
    rw [if_neg (by omega), e1, bsome]
    exact ⟨I1, rfl, e2, e3⟩
theorem x8_val1 {q : Nat} (F : FA sh q) {o : Option Fo} (hd : ∀ v, o = some v → v.1 ≤ 40) (h : FV I q p o) : s_X8_isValue q (sh, I, J) = some (if o = none then 0 else 1, (sh, I, J)) := by
  cases o with
  | none =>
    rw [x8_isValue (p := p) F (d := -1) (by omega) h, if_pos rfl, if_pos rfl]
  | some v =>
    have := hd v rfl
    rw [x8_isValue (p := p) F (d := v.1) (by omega) h, if_neg (by omega), if_neg (by simp)]
/-- two values are joined -/
theorem x14_end (hp : Pp p) {qa qb : Nat} {va vb : Option Fo} {S : Nat → Prop} (F1 : FA sh qa) (F2 : FA sh qb) (da : ∀ v, va = some v → v.1 ≤ 40) (db : ∀ v, vb = some v → v.1 ≤ 40) (hA : FV I qa p va) (hB : FV I qb p vb) {o : Int × Int} {G : Me → Option Me} (hS : ∀ a, aF qa a → S a)
    (hG : ∀ a b, va = some a → vb = some b → ∃ I', G (sh, I, J) = some (sh, I', J) ∧ FV I' qa p (jnV o a b) ∧ AF S I I') :
    ∃ I', ((ck (sh, I, J) 6 qa).bind fun _ => (s_X8_isValue qa (sh, I, J)).bind fun q9 => (if w32 q9.1 = 0 then (ck q9.2 6 qa).bind fun _ => (s_X8_nought qa (-1) q9.2).bind fun q12 => some q12
      else (ck q9.2 6 qb).bind fun _ => (s_X8_isValue qb q9.2).bind fun q14 => (if w32 q14.1 = 0 then (ck q14.2 6 qa).bind fun _ => (s_X8_nought qa (-1) q14.2).bind fun q20 => some q20 else G q14.2))) = some (sh, I', J) ∧
      FV I' qa p (va.bind fun a => vb.bind fun b => jnV o a b) ∧ AF S I I' := by
  have z1 : ¬ w32 1 = 0 := by decide
  have z0 : w32 0 = 0 := rfl
  obtain ⟨I1, e1, e2, e4, e3⟩ := x8_nought (I := I) (J := J) F1 p (d := -1) (by omega)
  rw [f_ck F1, bsome, x8_val1 F1 da hA, bsome]
  dsimp only
  cases va with
  | none =>
    rw [if_pos rfl, if_pos z0, f_ck F1, bsome, e1, bsome]
    exact ⟨I1, rfl, e2, e3.mono hS⟩
  | some a =>
    rw [if_neg (show ¬ (some a = none) by simp), if_neg z1, f_ck F2, bsome, x8_val1 F2 db hB, bsome]
    dsimp only
    cases vb with
    | none =>
      rw [if_pos rfl, if_pos z0, f_ck F1, bsome, e1, bsome]
      exact ⟨I1, rfl, e2, e3.mono hS⟩
    | some b =>
      rw [if_neg (show ¬ (some b = none) by simp), if_neg z1]
      exact hG a b rfl rfl
theorem x_val (C : CV sh x) (hp : Pp p) {q : Nat} {F : Fo} (hF : F.1 ≤ 40) (Q : FA sh q) :
    ∀ (n : Nat) (t : Tr n) (f : Nat) (a s : Nat) (I : Nat → Int → Int), n ≤ f → SA sh I n t a → Tr.wf n t → s + Tr.lv n t ≤ 64 → I (x + 5 + 1) 0 = p → FM I q p F.1 F.2 → (¬ vS x s q ∧ ¬ vS x s (q + 1)) →
      ∃ I', s_val f a x q s (sh, I, J) = some (sh, I', J) ∧ FV I' (x + 550 + 2 * s) p (Tr.val F n t) ∧ AF (vS x s) I I'
  | 0, t, _, _, _, _, _, _, _, _, _, _, _ => Empty.elim t
  | n + 1, t, 0, _, _, _, h, _, _, _, _, _, _ => by omega
  | n + 1, .inl u, f + 1, a, s, I, hf, hS, hw, hl, hI, hR, hq => by
    have hS : sh.2.1 a = 2 := hS
    have hl : s + 1 ≤ 64 := hl
    have G := C.fs (show s < 64 by omega)
    have hne : q ≠ x + 550 + 2 * s := fun e => hq.1 (Or.inr (by omega))
    have ap := G.ap Q (fun e => hne e.symm)
    unfold AP at ap
    obtain ⟨I1, e1, e2, e3⟩ := x8_be (I := I) (J := J) (p := p) G Q (by
      have := hq.1
      have := hq.2
      unfold vS at *
      omega) (by omega) hR
    refine ⟨I1, ?_, e2, e3.mono (fun b hb => Or.inr (by omega))⟩
    show (if sh.2.1 a = 2 then s_X4_value (s_val f) a x q s (sh, I, J) else _) = _
    rw [if_pos hS]
    unfold s_X4_value
    rw [c_shv C, bsome, c_shelf C (by omega), bsome, f_ck G, bsome, e1, bsome]
  | n + 1, .inr (.inl v), f + 1, a, s, I, hf, hS, hw, hl, hI, hR, hq => by
    have hS : sh.2.1 a = 10 ∧ I a 0 = v := hS
    have hw : 0 ≤ v ∧ v ≤ 999 := hw
    have hl : s + 1 ≤ 64 := hl
    have G := C.fs (show s < 64 by omega)
    have D := C.dl
    have nn := D.nf G
    obtain ⟨I1, e1, e2, e4, e3⟩ := x8_nought (I := I) (J := J) G p (d := 0) (by omega)
    have hv : I1 a 0 = v := by
      rw [e3 a (fun e => by
        rcases e with e | e
        · have := G.1
          rw [← e, hS.1] at this
          omega
        · have := G.2.2.1
          rw [← e, hS.1] at this
          omega)]
      exact hS.2
    have hp1 : I1 (x + 5 + 1) 0 = p := by rw [e3 (x + 5 + 1) (by omega)]; exact hI
    obtain ⟨I2, g1, k1, k2, k3, k4⟩ := f_put (I := I1) (J := J) G (k := 0) (v := v % p) (by omega) (by omega)
    refine ⟨I2, ?_, ⟨by rw [k2]; exact e2.1, fun k u w => ?_⟩, (e3.trans k4).mono (fun b hb => Or.inr (by omega))⟩
    · show (if sh.2.1 a = 2 then _ else if sh.2.1 a = 10 then s_X12_value (s_val f) a x q s (sh, I, J) else _) = _
      rw [if_neg (by omega), if_pos hS.1]
      unfold s_X12_value
      rw [c_shv C, bsome, c_shelf C (by omega), bsome, f_ck G, bsome, e1, bsome, c_shv C, bsome, c_shelf C (by omega), bsome, f_gR G, bsome, c_desk C, bsome, d_f D, bsome, gI_m hS.1, bsome, d_ckf D, bsome, hv, w32_id (by omega) (by omega), x7_of D.ff hp1 hp (by omega) (by omega), bsome]
      dsimp only
      rw [g1, bsome]
    · have : k = 0 := by
        have w : k ≤ ((0 : Nat) : Int) := w
        omega
      rw [this, k1]
      rfl
  | n + 1, .inr (.inr (.inl t)), f + 1, a, s, I, hf, hS, hw, hl, hI, hR, hq => by
    obtain ⟨hS, b, hb, hSb⟩ := (show sh.2.1 a = 11 ∧ ∃ b, sh.2.2.2 a 0 = some b ∧ SA sh I n t b from hS)
    have hl : s + Tr.lv n t ≤ 64 := hl
    have hlp := Tr.lv_pos n t
    have G := C.fs (show s < 64 by omega)
    obtain ⟨I1, e1, e2, e3⟩ := x_val C hp hF Q n t f b s I (by omega) hSb hw hl hI hR hq
    have hp1 : I1 (x + 5 + 1) 0 = p := by rw [e3 (x + 5 + 1) (by unfold vS; omega)]; exact hI
    have run : s_val (f + 1) a x q s (sh, I, J) = s_X13_value_l21 (s_val f) x (x + 550 + 2 * s) 0 (sh, I1, J) := by
      show (if sh.2.1 a = 2 then _ else if sh.2.1 a = 10 then _ else if sh.2.1 a = 11 then s_X13_value (s_val f) a x q s (sh, I, J) else _) = _
      rw [if_neg (by omega), if_neg (by omega), if_pos hS]
      unfold s_X13_value
      rw [gR_m hS hb, bsome, e1, bsome, c_shv C, bsome, c_shelf C (by omega), bsome]
    rw [run]
    show ∃ I', _ ∧ FV I' (x + 550 + 2 * s) p ((Tr.val F n t).map fun c => (c.1, fun k => 0 - c.2 k)) ∧ _
    cases hv : Tr.val F n t with
    | none =>
      rw [hv] at e2
      obtain ⟨I2, g1, g2, g3⟩ := x13_l21 (J := J) (R := s_val f) C hp1 hp G (n := -1) (c := fun _ => 0) (by omega) e2
      exact ⟨I2, g1, ⟨g2.1, fun k u w => by omega⟩, e3.trans (g3.mono (fun b hb => Or.inr (by omega)))⟩
    | some v =>
      rw [hv] at e2
      have hd := Tr.val_d hF n t v hv
      obtain ⟨I2, g1, g2, g3⟩ := x13_l21 (J := J) (R := s_val f) C hp1 hp G (n := v.1) (c := v.2) (by omega) e2
      exact ⟨I2, g1, g2, e3.trans (g3.mono (fun b hb => Or.inr (by omega)))⟩
  | n + 1, .inr (.inr (.inr (o, t1, t2))), f + 1, a, s, I, hf, hS, hw, hl, hI, hR, hq => by
    obtain ⟨⟨hS1, hS2⟩, b, c, ⟨hb, hc⟩, hSb, hSc⟩ := (show (sh.2.1 a = (if o.1 = 2 then 14 else if o.1 = 3 then 13 else 12) ∧ (o.1 = 4 → I a 2 = o.2)) ∧ ∃ b c, (sh.2.2.2 a 0 = some b ∧ sh.2.2.2 a 1 = some c) ∧ SA sh I n t1 b ∧ SA sh I n t2 c from hS)
    obtain ⟨ho, hw1, hw2⟩ := (show okO o ∧ Tr.wf n t1 ∧ Tr.wf n t2 from hw)
    have hl : s + (Tr.lv n t1 + Tr.lv n t2) ≤ 64 := hl
    have hlp1 := Tr.lv_pos n t1
    have hlp2 := Tr.lv_pos n t2
    have D := C.dl
    have G1 := C.fs (show s < 64 by omega)
    have G2 := C.fs (show s + 1 < 64 by omega)
    obtain ⟨I1, e1, e2, e3⟩ := x_val C hp hF Q n t1 f b s I (by omega) hSb hw1 (by omega) hI hR hq
    have hp1 : I1 (x + 5 + 1) 0 = p := by rw [e3 (x + 5 + 1) (by unfold vS; omega)]; exact hI
    obtain ⟨I2, g1, g2, g3⟩ := x_val C hp hF Q n t2 f c (s + 1) I1 (by omega) (C.sa e3 hSc) hw2 (by omega) hp1 (hR.keep e3 hq.1 hq.2) (by unfold vS at hq ⊢; omega)
    have f2 : AF (vS x s) I I2 := e3.trans (g3.mono (fun i hi => by unfold vS at hi ⊢; omega))
    have hp2 : I2 (x + 5 + 1) 0 = p := by rw [f2 (x + 5 + 1) (by unfold vS; omega)]; exact hI
    have v1 : FV I2 (x + 550 + 2 * s) p (Tr.val F n t1) := e2.eq (g3 _ (by unfold vS; omega)) (g3 _ (by unfold vS; omega))
    have d1 : ∀ v, Tr.val F n t1 = some v → v.1 ≤ 40 := fun v h => Tr.val_d hF n t1 v h
    have d2 : ∀ v, Tr.val F n t2 = some v → v.1 ≤ 40 := fun v h => Tr.val_d hF n t2 v h
    have hsub : ∀ i, (dS (x + 5) i ∨ aF (x + 550 + 2 * s) i) → vS x s i := fun i hi => by unfold vS; omega
    have nn1 : x + 550 + 2 * s ≠ x + 5 + 2 ∧ x + 550 + 2 * s ≠ x + 5 + 4 ∧ x + 550 + 2 * s ≠ x + 5 + 6 ∧ x + 550 + 2 * s ≠ x + 5 + 8 := by omega
    have nn2 : x + 550 + 2 * (s + 1) ≠ x + 5 + 2 ∧ x + 550 + 2 * (s + 1) ≠ x + 5 + 4 ∧ x + 550 + 2 * (s + 1) ≠ x + 5 + 6 ∧ x + 550 + 2 * (s + 1) ≠ x + 5 + 8 := by omega
    have cs1 : ((s : Int) + 1) = ((s + 1 : Nat) : Int) := by omega
    have fin := fun (G : Me → Option Me) hG => x14_end (J := J) (I := I2) hp (o := o) (G := G) (S := vS x s) G1 G2 d1 d2 v1 g2 (fun i hi => hsub i (Or.inr hi)) hG
    show ∃ I', (if sh.2.1 a = 2 then _ else if sh.2.1 a = 10 then _ else if sh.2.1 a = 11 then _ else if sh.2.1 a = 12 then s_X14_value_p12 (s_val f) a x q s (sh, I, J) else if sh.2.1 a = 13 then s_X14_value_p13 (s_val f) a x q s (sh, I, J) else if sh.2.1 a = 14 then s_X14_value_p14 (s_val f) a x q s (sh, I, J) else none) = some (sh, I', J) ∧ FV I' (x + 550 + 2 * s) p ((Tr.val F n t1).bind fun a => (Tr.val F n t2).bind fun b => jnV o a b) ∧ AF (vS x s) I I'
    obtain ⟨o1, o2⟩ := o
    dsimp only at hS1 hS2 ho
    rcases ho.1 with h | h | h
    · have h : o1 = 2 := h
      subst h
      rw [if_pos rfl] at hS1
      rw [if_neg (by omega), if_neg (by omega), if_neg (by omega), if_neg (by omega), if_neg (by omega), if_pos hS1]
      obtain ⟨I3, z1, z2, z3⟩ := fin (fun μ => (gR μ 0 x 1).bind fun v17 => (ck μ 14 a).bind fun _ => (s_X17_joins a v17 (x + 550 + 2 * s) (x + 550 + 2 * (s + 1)) μ).bind fun q18 => some q18) (fun va vb ha hb => by
        rw [ha] at v1
        rw [hb] at g2
        obtain ⟨I3, z1, z2, z3⟩ := x17_joins (J := J) (o := a) (y := o2) D hp2 hp G1 G2 (by omega) (d1 va ha) (d2 vb hb) v1 g2
        refine ⟨I3, ?_, z2, z3.mono hsub⟩
        rw [c_desk C, bsome, ck_m hS1, bsome, z1, bsome])
      refine ⟨I3, ?_, z2, f2.trans z3⟩
      rw [← z1]
      unfold s_X14_value_p14
      rw [gR_m hS1 hb, bsome, e1, bsome, gR_m hS1 hc, bsome, cs1, g1, bsome, c_shv C, bsome, c_shelf C (by omega), bsome, bsome, c_shelf C (by omega), bsome]
    · have h : o1 = 3 := h
      subst h
      rw [if_neg (by decide), if_pos rfl] at hS1
      rw [if_neg (by omega), if_neg (by omega), if_neg (by omega), if_neg (by omega), if_pos hS1]
      obtain ⟨I3, z1, z2, z3⟩ := fin (fun μ => (gR μ 0 x 1).bind fun v17 => (ck μ 13 a).bind fun _ => (s_X16_joins a v17 (x + 550 + 2 * s) (x + 550 + 2 * (s + 1)) μ).bind fun q18 => some q18) (fun va vb ha hb => by
        rw [ha] at v1
        rw [hb] at g2
        obtain ⟨I3, z1, z2, z3⟩ := x16_joins (J := J) (o := a) (y := o2) D hp2 hp G1 G2 nn1.1 nn2.1 (d1 va ha) (d2 vb hb) v1 g2
        refine ⟨I3, ?_, z2, z3.mono hsub⟩
        rw [c_desk C, bsome, ck_m hS1, bsome, z1, bsome])
      refine ⟨I3, ?_, z2, f2.trans z3⟩
      rw [← z1]
      unfold s_X14_value_p13
      rw [gR_m hS1 hb, bsome, e1, bsome, gR_m hS1 hc, bsome, cs1, g1, bsome, c_shv C, bsome, c_shelf C (by omega), bsome, bsome, c_shelf C (by omega), bsome]
    · have h : o1 = 4 := h
      subst h
      rw [if_neg (by decide), if_neg (by decide)] at hS1
      rw [if_neg (by omega), if_neg (by omega), if_neg (by omega), if_pos hS1]
      have hby : I2 a 2 = o2 := by
        rw [f2 a (fun e => by have := C.vt e; omega)]
        exact hS2 rfl
      obtain ⟨I3, z1, z2, z3⟩ := fin (fun μ => (gR μ 0 x 1).bind fun v17 => (ck μ 12 a).bind fun _ => (s_X15_joins a v17 (x + 550 + 2 * s) (x + 550 + 2 * (s + 1)) μ).bind fun q18 => some q18) (fun va vb ha hb => by
        rw [ha] at v1
        rw [hb] at g2
        obtain ⟨I3, z1, z2, z3⟩ := x15_joins (J := J) (o := a) (y := o2) D hp2 hp ⟨hS1, hby⟩ ho.2 G1 G2 nn1 nn2 (d1 va ha) (d2 vb hb) v1 g2
        refine ⟨I3, ?_, z2, z3.mono hsub⟩
        rw [c_desk C, bsome, ck_m hS1, bsome, z1, bsome])
      refine ⟨I3, ?_, z2, f2.trans z3⟩
      rw [← z1]
      unfold s_X14_value_p12
      rw [gR_m hS1 hb, bsome, e1, bsome, gR_m hS1 hc, bsome, cs1, g1, bsome, c_shv C, bsome, c_shelf C (by omega), bsome, bsome, c_shelf C (by omega), bsome]
end CS
