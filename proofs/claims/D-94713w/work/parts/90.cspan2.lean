/-! the component: span, basis -/
set_option maxRecDepth 100000
theorem twB.congr {p : Int} {L m r : Nat} {v v' B : Nat → Int → Int} (h : twB p L m v r B) (e : ∀ i, i < m → v i = v' i) : twB p L m v' r B := by
  obtain ⟨h1, h2, h3⟩ := h
  exact ⟨h1, h2, fun V hV => ⟨fun g => (h3 V hV).mp (fun i hi => by rw [e i hi]; exact g i hi), fun g i hi => by rw [← e i hi]; exact (h3 V hV).mpr g i hi⟩⟩
theorem twB.nil {p : Int} {L : Nat} {v B : Nat → Int → Int} : twB p L 0 v 0 B := ⟨fun i hi => by omega, fun i k _ hk => by omega, fun V _ => ⟨fun _ i hi => by omega, fun _ i hi => by omega⟩⟩
theorem orI_0 {b : Int} : orI (orI b 0) 0 = orI b 0 := by
  unfold orI
  rw [Int32.ofInt_toInt]
  congr 1
  have : Int32.ofInt 0 = 0 := rfl
  rw [this, Int32.or_zero, Int32.or_zero]
theorem orI_or {a b : Int} : orI (orI a b) 0 = orI a b := by
  unfold orI
  rw [Int32.ofInt_toInt]
  have : Int32.ofInt 0 = 0 := rfl
  rw [this, Int32.or_zero]
theorem bsZ_bits {p seed : Int} {d : Nat} {ts : Tg} {sel : Nat → Bool} : ∀ (s : Nat) (z : Sz), bsZ p seed d ts sel s = some z → orI z.2.2.1 0 = z.2.2.1 ∧ z.2.1 ≤ s
  | 0, z, h => by
    rw [← Option.some.inj h]
    exact ⟨by decide, Nat.le_refl _⟩
  | s + 1, z, h => by
    have h : (bsZ p seed d ts sel s).bind (bsS p seed d ts s (sel s)) = some z := h
    obtain ⟨y, h1, h2⟩ := bs h
    obtain ⟨i1, i2⟩ := bsZ_bits s y h1
    unfold bsS at h2
    by_cases c : sel s = false
    · rw [if_pos c] at h2
      rw [← Option.some.inj h2]
      exact ⟨i1, by omega⟩
    · rw [if_neg c] at h2
      cases hd : Tr.dg d (ts s).1 (ts s).2 with
      | none => rw [hd] at h2; cases h2
      | some e =>
        rw [hd] at h2
        dsimp only at h2
        split at h2
        · cases h2
        · split at h2
          · rw [← Option.some.inj h2]
            exact ⟨orI_or, by show y.2.1 + 1 ≤ s + 1; omega⟩
          · rw [← Option.some.inj h2]
            exact ⟨i1, by show y.2.1 ≤ s + 1; omega⟩
/-- answered, the rows' order may have moved -/
def CGX (y : Option (Ex ⊕ (Int × Me))) (sh : Sh) (I J : Nat → Int → Int) (x : Nat) (r : Int) : Prop := ∃ sh' I', y = some (.inr (r, (sh', I', J))) ∧ SX x sh sh' ∧ (∃ π', RP2 sh' x π') ∧ AF (xS x) I I'
section CS2
variable {sh : Sh} {I J : Nat → Int → Int} {x : Nat} {p : Int} {W : Int → Int}
/-- the signs' trees lie there -/
def TsA (sh : Sh) (I : Nat → Int → Int) (x : Nat) (n : Int) (ts : Tg) : Prop := ∀ s : Nat, (s : Int) < n → ∃ a, sh.2.2.2 (x + 16 + 11) s = some a ∧ SA sh I (ts s).1 (ts s).2 a ∧ Tr.wf (ts s).1 (ts s).2 ∧ Tr.lv (ts s).1 (ts s).2 ≤ 20 ∧ (ts s).1 ≤ 200
theorem TsA.keep (L : CL sh x) {I' : Nat → Int → Int} {n : Int} {ts : Tg} (h : TsA sh I x n ts) (hF : AF (xS x) I I') : TsA sh I' x n ts := fun s hs => by
  obtain ⟨a, h1, h2, h3⟩ := h s hs
  exact ⟨a, h1, L.sa hF h2, h3⟩
theorem TsA.sx (L : CL sh x) {sh' : Sh} {n : Int} {ts : Tg} (h : TsA sh I x n ts) (g : SX x sh sh') : TsA sh' I x n ts := fun s hs => by
  obtain ⟨a, h1, h2, h3⟩ := h s hs
  have t := L.rw.2.1.1
  exact ⟨a, by rw [g.2.2.2 _ (by omega)]; exact h1, SA.ext (fun b hb => ⟨by rw [g.2.1], g.2.2.2 b (fun e => by rw [e] at hb; omega)⟩) _ _ _ h2, h3⟩
theorem x1_spansL (L : CL sh x) (hI : I (x + 5 + 1) 0 = p) (hp : Pp p) {π : Nat → Nat} (hπ : RP2 sh x π) {n : Nat} (hn : n ≤ 8) (h7 : I (x + 16) 7 = n) {d : Nat} (hd : d ≤ 8) {set seed : Int} {ts : Tg} (hts : TsA sh I x n ts) :
    ∀ (q s many : Nat) (w : Int) (I1 : Nat → Int → Int) (v : Nat → Int → Int) (z : Sz), s + q = n → bsZ p seed d ts (selO set) s = some z → z.2.2.2 = w → many ≤ s → (w = -1 ∧ many = 0 ∧ z.2.1 = 0 ∨ ∃ e : Nat, w = e ∧ e ≤ 40 ∧ twB p (12 * (e + 1)) many v z.2.1 z.1 ∧ RO I1 x p π v many (12 * (e + 1))) → AF (xS x) I I1 →
      ∃ sh' I', s_X1_spans_l9 x set d seed many w s (sh, I1, J) = some (spP ((bsZ p seed d ts (selO set) n).map fun z => (z.2.1, z.2.2.1)), (sh', I', J)) ∧ SX x sh sh' ∧ (∃ π', RP2 sh' x π') ∧ AF (xS x) I I' := by
  have T := L.st
  intro q
  induction q with
  | zero =>
    intro s many w I1 v z hs hz hw hm hst hF
    have hsn : s = n := by omega
    subst hsn
    have hI1 : I1 (x + 5 + 1) 0 = p := by rw [xS.f hF]; exact hI
    have h71 : I1 (x + 16) 7 = s := by rw [hF _ (by unfold xS; omega)]; exact h7
    have st : s_X1_spans_l9 x set d seed many w s (sh, I1, J) = s_X1_spans_b221 x many w (sh, I1, J) := by
      rw [e_X1_spans_l9]
      unfold s_X1_spans_l9_st
      rw [l_st L, bsome, s_gI T, bsome, h71, w32_id (by omega) (by omega), if_pos (by omega)]
      cases s_X1_spans_b221 x many w (sh, I1, J) <;> rfl
    rw [st, hz]
    unfold s_X1_spans_b221
    have fin : ∀ (Lw : Nat) (v' : Nat → Int → Int), 12 * (w + 1) = (Lw : Int) → Lw ≤ 492 → RO I1 x p π v' many Lw → (∀ r, Rkk p Lw many v' r → r ≤ many → r = z.2.1) → ∃ sh' I', ((ck (sh, I1, J) 0 x).bind fun _ => (s_X1_independent x many (12 * (w + 1)) (sh, I1, J)).bind fun q4 => some (q4.1, q4.2)) = some (spP ((some z).map fun z => (z.2.1, z.2.2.1)), (sh', I', J)) ∧ SX x sh sh' ∧ (∃ π', RP2 sh' x π') ∧ AF (xS x) I I' := by
      intro Lw v' e1 e2 hv hr
      obtain ⟨sh', I', r, e3, k3, l3, s3, p3, f3⟩ := x1_independent (J := J) L hI1 hp hπ (m := many) (Lw := Lw) (v := v') (by omega) e2 hv
      refine ⟨sh', I', ?_, s3, p3, hF.trans (f3.mono (fun a ha => by unfold rwS at ha; unfold xS; omega))⟩
      rw [l_ck L, bsome, e1, e3, bsome, hr r k3 l3]
      rfl
    rcases hst with ⟨h1, h2, h3⟩ | ⟨e, h1, h2, h3, h4⟩
    · exact fin 0 v (by rw [h1]; rfl) (by omega) (fun r hr j hj => by omega) (fun r _ hr => by omega)
    · exact fin (12 * (e + 1)) v (by rw [h1]; omega) (by omega) h4 (fun r hr _ => rk_uniq hp hr h3.rk)
  | succ q ih =>
    intro s many w I1 v z hs hz hw hm hst hF
    have hI1 : I1 (x + 5 + 1) 0 = p := by rw [xS.f hF]; exact hI
    have h71 : I1 (x + 16) 7 = n := by rw [hF _ (by unfold xS; omega)]; exact h7
    have hwb : -1 ≤ w ∧ w ≤ 40 := by
      rcases hst with ⟨h1, -⟩ | ⟨e, h1, h2, -⟩ <;> omega
    have eZ : bsZ p seed d ts (selO set) (s + 1) = bsS p seed d ts s (selO set s) z := by
      show (bsZ p seed d ts (selO set) s).bind _ = _
      rw [hz]
      rfl
    have sb := sel_bit set s (by omega)
    have sv : w32 (anI (srI set s) 1) = anI (srI set s) 1 := by
      rw [sb]
      split <;> rfl
    have st : s_X1_spans_l9 x set d seed many w s (sh, I1, J) = (if anI (srI set s) 1 = 0 then s_X1_spans_l9 x set d seed many w ((s + 1 : Nat) : Int) (sh, I1, J) else (s_X1_spans_l39 x set d seed many w s seed 0 (sh, I1, J)).bind fun y => y.elim (fun s : Int × Int × Int × Me => s_X1_spans_l9 x set d seed s.1 s.2.1 s.2.2.1 s.2.2.2) some) := by
      rw [e_X1_spans_l9]
      unfold s_X1_spans_l9_st
      rw [l_st L, bsome, s_gI T, bsome, h71, w32_id (x := (n : Int)) (by omega) (by omega), w32_id (x := (s : Int)) (by omega) (by omega), if_neg (by omega), sv]
      by_cases c : anI (srI set s) 1 = 0
      · rw [if_pos c, if_pos c]
        rfl
      · rw [if_neg c, if_neg c]
    rw [st]
    by_cases c : anI (srI set s) 1 = 0
    · rw [if_pos c]
      have : selO set s = false := decide_eq_false (fun g => g c)
      rw [this] at eZ
      exact ih (s + 1) many w I1 v z (by omega) eZ hw (by omega) hst hF
    · rw [if_neg c]
      have hsel : selO set s = true := decide_eq_true c
      rw [hsel] at eZ
      obtain ⟨a, a1, a2, a3, a4, a5⟩ := (hts.keep L hF) s (by omega)
      obtain ⟨t1, t2, t3⟩ := x1_sign (J := J) (set := set) (seed := seed) (many := many) (s := s) (w := w) L hp hπ hd (by omega) (by omega) a1 a3 a4 a5 hwb hI1 a2
      have wx : ∀ I2, AF (wS x (x + 516 + π many)) I1 I2 → AF (xS x) I1 I2 := fun I2 h => h.mono (fun b hb => by have := (hπ.1 many (by omega)).1; unfold wS vS dS at hb; unfold xS; omega)
      have nil : bsZ p seed d ts (selO set) (s + 1) = none → (∃ I2, s_X1_spans_l39 x set d seed many w s seed 0 (sh, I1, J) = some (.inr (-1, (sh, I2, J))) ∧ AF (wS x (x + 516 + π many)) I1 I2) → ∃ sh' I', ((s_X1_spans_l39 x set d seed many w s seed 0 (sh, I1, J)).bind fun y => y.elim (fun s : Int × Int × Int × Me => s_X1_spans_l9 x set d seed s.1 s.2.1 s.2.2.1 s.2.2.2) some) = some (spP ((bsZ p seed d ts (selO set) n).map fun z => (z.2.1, z.2.2.1)), (sh', I', J)) ∧ SX x sh sh' ∧ (∃ π', RP2 sh' x π') ∧ AF (xS x) I I' := by
        rintro h ⟨I2, e2, f2⟩
        have hn0 : bsZ p seed d ts (selO set) n = none := by
          have := bsZ_none h (n - (s + 1))
          rwa [show s + 1 + (n - (s + 1)) = n by omega] at this
        rw [hn0, e2]
        exact ⟨sh, I2, rfl, SX.refl, ⟨π, hπ⟩, hF.trans (wx _ f2)⟩
      unfold bsS at eZ
      rw [if_neg (show ¬ true = false by decide)] at eZ
      cases hdg : Tr.dg d (ts s).1 (ts s).2 with
      | none =>
        rw [hdg] at eZ
        exact nil eZ (t1 hdg)
      | some e =>
        rw [hdg] at eZ
        dsimp only at eZ
        rw [hw] at eZ
        by_cases c2 : w ≠ -1 ∧ w ≠ e
        · rw [if_pos c2] at eZ
          exact nil eZ (t2 e hdg c2)
        · rw [if_neg c2] at eZ
          obtain ⟨e40, I2, e2, r2, f2⟩ := t3 e hdg c2
          rw [e2]
          obtain ⟨v', hv'⟩ : ∃ v' : Nat → Int → Int, v' = fun r => if r = many then rwV p seed d e (ts s).1 (ts s).2 else v r := ⟨_, rfl⟩
          have ve : ∀ r, v' r = if r = many then rwV p seed d e (ts s).1 (ts s).2 else v r := fun r => by rw [hv']
          have vm : v' many = rwV p seed d e (ts s).1 (ts s).2 := by rw [ve, if_pos rfl]
          have tw : twB p (12 * (e + 1)) many v' z.2.1 z.1 := by
            rcases hst with ⟨h1, h2, h3⟩ | ⟨e', h1, h2, h3, h4⟩
            · rw [h2, h3]
              exact twB.nil
            · have : e' = e := by omega
              subst this
              exact h3.congr (fun i hi => by rw [ve, if_neg (by omega)])
          have ro : RO I2 x p π v' (many + 1) (12 * (e + 1)) := by
            intro r hr j hj
            rw [ve]
            by_cases g : r = many
            · rw [if_pos g, g]
              exact r2 j hj
            · rw [if_neg g]
              rcases hst with ⟨h1, h2, h3⟩ | ⟨e', h1, h2, h3, h4⟩
              · omega
              · have : e' = e := by omega
                subst this
                have b1 := (hπ.1 r (by omega)).1
                have b2 := hπ.2 r many (by omega) (by omega)
                rw [f2 _ (by unfold wS vS dS; omega)]
                exact h4 r (by omega) j hj
          have go : ∀ z' : Sz, bsZ p seed d ts (selO set) (s + 1) = some z' → z'.2.2.2 = e → twB p (12 * (e + 1)) (many + 1) v' z'.2.1 z'.1 → ∃ sh' I', s_X1_spans_l9 x set d seed ((many : Int) + 1) e ((s : Int) + 1) (sh, I2, J) = some (spP ((bsZ p seed d ts (selO set) n).map fun z => (z.2.1, z.2.2.1)), (sh', I', J)) ∧ SX x sh sh' ∧ (∃ π', RP2 sh' x π') ∧ AF (xS x) I I' := by
            intro z' h1 h2 h3
            exact ih (s + 1) (many + 1) e I2 v' z' (by omega) h1 h2 (by omega) (Or.inr ⟨e, rfl, e40, h3, ro⟩) (hF.trans (wx _ f2))
          rw [← vm] at eZ
          by_cases c3 : ldZ p (rdN p (12 * (e + 1)) z.1 z.2.1 (v' many)) (12 * (e + 1)) 0 < 12 * (e + 1)
          · rw [if_pos c3] at eZ
            exact go _ eZ rfl (tw.new hp c3)
          · rw [if_neg c3] at eZ
            exact go _ eZ rfl (tw.old c3)
theorem x1_spans (L : CL sh x) (hI : I (x + 5 + 1) 0 = p) (hp : Pp p) {n : Nat} (hn : n ≤ 8) (h7 : I (x + 16) 7 = n) {d : Nat} (hd : d ≤ 8) (set seed : Int) {ts : Tg} (hts : TsA sh I x n ts) :
    ∃ sh' I', s_X1_spans x set d seed (sh, I, J) = some (spP ((bsZ p seed d ts (selO set) n).map fun z => (z.2.1, z.2.2.1)), (sh', I', J)) ∧ SX x sh sh' ∧ (∃ π', RP2 sh' x π') ∧ AF (xS x) I I' := by
  obtain ⟨π, hπ⟩ := L.rp
  exact x1_spansL (J := J) L hI hp hπ hn h7 hd hts n 0 0 (-1) I (fun _ _ => 0) _ (by omega) rfl rfl (Nat.le_refl _) (Or.inl ⟨rfl, rfl, rfl⟩) AF.refl
theorem x_span (L : CL sh x) (R : Room sh) (hI : I (x + 5 + 1) 0 = p) (hp : Pp p) {n : Nat} (hn : n ≤ 8) (h7 : I (x + 16) 7 = n) {set d seed : Int} (hd : i32 d) {ts : Tg} (hts : TsA sh I x n ts) :
    ((1 ≤ d ∧ d ≤ 8) → CGX (s_X1_span x set d seed (sh, I, J)) sh I J x (spP (bsP p seed d.toNat set ts n))) ∧ (¬(1 ≤ d ∧ d ≤ 8) → CB (s_X1_span x set d seed (sh, I, J)) sh I J 0) := by
  have e1 := x1_in (lo := 1) (hi := 8) (μ := (sh, I, J)) hd ⟨by omega, by omega⟩ ⟨by omega, by omega⟩
  unfold s_X1_span
  rw [e1, bsome]
  dsimp only
  refine ⟨fun h => ?_, fun h => ?_⟩
  · obtain ⟨d', rfl⟩ : ∃ d' : Nat, d = d' := ⟨d.toNat, by omega⟩
    obtain ⟨sh', I', e2, s2, p2, f2⟩ := x1_spans (J := J) L hI hp hn h7 (d := d') (by omega) set seed hts
    rw [if_pos h, x1_must1, xb_r, l_ck L, bsome, e2, bsome, Int.toNat_natCast, bsP_eq]
    exact ⟨sh', I', rfl, s2, p2, f2⟩
  · unfold CB
    rw [if_neg h, x1_must0 R, xb_l]
theorem x_basis (L : CL sh x) (R : Room sh) (hI : I (x + 5 + 1) 0 = p) (hp : Pp p) {n : Nat} (hn : n ≤ 8) (h7 : I (x + 16) 7 = n) {set d seed : Int} (hd : i32 d) {ts : Tg} (hts : TsA sh I x n ts) :
    ((1 ≤ d ∧ d ≤ 8) → CGX (s_X1_basis x set d seed (sh, I, J)) sh I J x (baP (bsP p seed d.toNat set ts n))) ∧ (¬(1 ≤ d ∧ d ≤ 8) → CB (s_X1_basis x set d seed (sh, I, J)) sh I J 0) := by
  have e1 := x1_in (lo := 1) (hi := 8) (μ := (sh, I, J)) hd ⟨by omega, by omega⟩ ⟨by omega, by omega⟩
  unfold s_X1_basis
  rw [e1, bsome]
  dsimp only
  refine ⟨fun h => ?_, fun h => ?_⟩
  · obtain ⟨d', rfl⟩ : ∃ d' : Nat, d = d' := ⟨d.toNat, by omega⟩
    obtain ⟨sh1, I1, e2, s2, p2, f2⟩ := x1_spans (J := J) L hI hp hn h7 (d := d') (by omega) set seed hts
    rw [if_pos h, x1_must1, xb_r, l_ck L, bsome, e2, bsome, Int.toNat_natCast, bsP_eq]
    dsimp only
    cases hZ : bsZ p seed d' ts (selO set) n with
    | none =>
      rw [show spP ((none : Option Sz).map fun z => (z.2.1, z.2.2.1)) = -1 from rfl, if_pos rfl]
      exact ⟨sh1, I1, rfl, s2, p2, f2⟩
    | some zn =>
      have bn := (bsZ_bits n zn hZ).2
      rw [show spP ((some zn).map fun z => (z.2.1, z.2.2.1)) = (zn.2.1 : Int) from rfl, show baP ((some zn).map fun z => (z.2.1, z.2.2.1)) = zn.2.2.1 from rfl, show w32 (-1) = -1 from rfl, w32_id (x := (zn.2.1 : Int)) (by omega) (by omega), if_neg (by omega)]
      have pre : ∀ s, s ≤ n → ∃ z, bsZ p seed d' ts (selO set) s = some z := fun s hs => by
        cases h9 : bsZ p seed d' ts (selO set) s with
        | some z => exact ⟨z, rfl⟩
        | none =>
          have := bsZ_none h9 (n - s)
          rw [show s + (n - s) = n by omega, hZ] at this
          cases this
      have key : ∀ (q s : Nat) (z : Sz) (sh1 : Sh) (I1 : Nat → Int → Int), s + q = n → bsZ p seed d' ts (selO set) s = some z → SX x sh sh1 → (∃ π', RP2 sh1 x π') → AF (xS x) I I1 →
          ∃ sh' I', s_X1_basis_l34 x set d' seed z.2.2.1 z.2.1 s (sh1, I1, J) = some (.inr (zn.2.2.1, (sh', I', J))) ∧ SX x sh sh' ∧ (∃ π', RP2 sh' x π') ∧ AF (xS x) I I' := by
        intro q
        induction q with
        | zero =>
          intro s z sh1 I1 hs hz s1 p1 f1
          have L1 := L.sx s1 p1
          have : s = n := by omega
          subst this
          have h71 : I1 (x + 16) 7 = s := by rw [f1 _ (by unfold xS; omega)]; exact h7
          rw [hZ] at hz
          refine ⟨sh1, I1, ?_, s1, p1, f1⟩
          rw [e_X1_basis_l34]
          unfold s_X1_basis_l34_st
          rw [l_st L1, bsome, s_gI L1.st, bsome, h71, w32_id (by omega) (by omega), if_pos (by omega), Option.some.inj hz]
          rfl
        | succ q ih =>
          intro s z sh1 I1 hs hz s1 p1 f1
          have L1 := L.sx s1 p1
          have h71 : I1 (x + 16) 7 = n := by rw [f1 _ (by unfold xS; omega)]; exact h7
          have hI1 : I1 (x + 5 + 1) 0 = p := by rw [xS.f f1]; exact hI
          obtain ⟨z', hz'⟩ := pre (s + 1) (by omega)
          have eZ : bsZ p seed d' ts (selO set) (s + 1) = bsS p seed d' ts s (selO set s) z := by
            show (bsZ p seed d' ts (selO set) s).bind _ = _
            rw [hz]
            rfl
          have bz := bsZ_bits s z hz
          have bz' := bsZ_bits (s + 1) z' hz'
          have sb := sel_bit set s (by omega)
          have sv : w32 (anI (srI set s) 1) = anI (srI set s) 1 := by
            rw [sb]
            split <;> rfl
          rw [e_X1_basis_l34]
          unfold s_X1_basis_l34_st
          rw [l_st L1, bsome, s_gI L1.st, bsome, h71, w32_id (x := (n : Int)) (by omega) (by omega), w32_id (x := (s : Int)) (by omega) (by omega), if_neg (by omega), sv]
          by_cases c : anI (srI set s) 1 = 0
          · rw [if_pos c]
            have hsel : selO set s = false := decide_eq_false (fun g => g c)
            rw [hsel] at eZ
            obtain ⟨sh', I', r1, r2⟩ := ih (s + 1) z sh1 I1 (by omega) eZ s1 p1 f1
            exact ⟨sh', I', r1, r2⟩
          · rw [if_neg c, l_ck L1, bsome]
            have hsel : selO set s = true := decide_eq_true c
            rw [hsel, hz'] at eZ
            have ts1 : TsA sh1 I1 x n ts := (hts.keep L f1).sx L s1
            obtain ⟨sh2, I2, e3, s3, p3, f3⟩ := x1_spans (J := J) L1 hI1 hp hn h71 (d := d') (by omega) (anI set (slI 2 s - 1)) seed ts1
            rw [bsZ_mask hn (by omega), hz'] at e3
            have e3 : s_X1_spans x (anI set (slI 2 s - 1)) d' seed (sh1, I1, J) = some ((z'.2.1 : Int), (sh2, I2, J)) := e3
            rw [e3, bsome]
            dsimp only
            rw [w32_id (x := (z'.2.1 : Int)) (by omega) (by omega), w32_id (x := (z.2.1 : Int)) (by omega) (by omega)]
            obtain ⟨sh', I', r1, r2⟩ := ih (s + 1) z' sh2 I2 (by omega) hz' (s1.trans s3) p3 (f1.trans f3)
            refine ⟨sh', I', ?_, r2⟩
            rw [← r1]
            -- what the twin's step does
            unfold bsS at eZ
            rw [if_neg (show ¬ true = false by decide)] at eZ
            cases hdg : Tr.dg d' (ts s).1 (ts s).2 with
            | none => rw [hdg] at eZ; cases eZ
            | some e =>
              rw [hdg] at eZ
              dsimp only at eZ
              split at eZ
              · cases eZ
              · split at eZ
                · have eZ := Option.some.inj eZ
                  have m1 : z'.2.1 = z.2.1 + 1 := by rw [eZ]
                  have b1 : z'.2.2.1 = orI z.2.2.1 (slI 1 s) := by rw [eZ]
                  rw [if_neg (by omega), b1]
                  rfl
                · have eZ := Option.some.inj eZ
                  have m1 : z'.2.1 = z.2.1 := by rw [eZ]
                  have b1 : z'.2.2.1 = z.2.2.1 := by rw [eZ]
                  rw [if_pos (by omega), bz.1, b1]
                  rfl
      obtain ⟨sh', I', r1, r2⟩ := key n 0 (fun _ _ => 0, 0, 0, -1) sh1 I1 (by omega) rfl s2 p2 f2
      exact ⟨sh', I', r1, r2⟩
  · unfold CB
    rw [if_neg h, x1_must0 R, xb_l]
end CS2
