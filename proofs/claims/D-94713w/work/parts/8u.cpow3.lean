/-! the component: powers, the search of points, the call -/
set_option maxRecDepth 100000
/-- points, numbers, shelves -/
def qS (x a : Nat) : Prop := a = x + 545 ∨ a = x + 546 ∨ (x + 550 ≤ a ∧ a ≤ x + 677)
def QA (sh : Sh) (x : Nat) (I J : Nat → Int → Int) (A : (Int → Int) → (Int → Int) → Prop) (μ : Me) : Prop := ∃ I' : Nat → Int → Int, μ = (sh, I', J) ∧ AF (qS x) I I' ∧ A (I' (x + 545)) (I' (x + 546))
section CPo
variable {sh : Sh} {I J : Nat → Int → Int} {x : Nat} {p : Int} {W : Int → Int}
theorem QA.mono {A B : (Int → Int) → (Int → Int) → Prop} {μ : Me} (h : QA sh x I J A μ) (hAB : ∀ s f, A s f → B s f) : QA sh x I J B μ := by
  obtain ⟨I', h1, h2, h3⟩ := h
  exact ⟨I', h1, h2, hAB _ _ h3⟩
theorem QNm.qa {k : Nat} {I' : Nat → Int → Int} {A : (Int → Int) → Prop} {B : (Int → Int) → (Int → Int) → Prop} {μ : Me} (h : QNm sh x k I' J A μ) (h2 : AF (qS x) I I') (hAB : ∀ f, A f → B (I' (x + 545)) f) : QA sh x I J B μ := by
  obtain ⟨I3, h1, f3, n3, a3⟩ := h
  refine ⟨I3, h1, h2.trans (f3.mono (fun a ha => by unfold nS at ha; unfold qS; omega)), ?_⟩
  rw [f3 (x + 545) (by unfold nS; omega)]
  exact hAB _ a3
/-- points, one after the other -/
theorem x1_addsL (L : CL sh x) (hI : I (x + 5 + 1) 0 = p) (hp : Pp p) {β : Type} {F : Nat → Nat → Nat → Int → Int → Int → Me → Option (Int × Me)} {q at_ : Nat} {many : Int} (ha : at_ < 3) (hm : 0 ≤ many ∧ many ≤ 3) (g : Nat → Option β) (Pr : (Int → Int) → Prop) (R : β → (Int → Int) → (Int → Int) → Prop)
    (hPr : ∀ s v, Pr s → Pr (upz s at_ v)) (C : Me → Option (Int × Me)) (hC : C = if many ≤ (at_ : Int) + 1 then F 2 x q many 0 0 else F 1 x q at_ many 0)
    (H : ∀ (b : Nat) (I' : Nat → Int → Int), (b : Int) ≤ p → AF (qS x) I I' → Pr (I' (x + 545)) → I' (x + 545) at_ = b → (g b = none → ∃ μ', C (sh, I', J) = some (0, μ') ∧ QA sh x I J (fun s _ => Pr s) μ') ∧ ∀ r, g b = some r → ∃ μ', C (sh, I', J) = some (1, μ') ∧ QA sh x I J (R r) μ') :
    ∀ (c from_ : Nat) (μ : Me), from_ + c = (p + 1).toNat → QA sh x I J (fun s _ => Pr s) μ → (fnd g c from_ = none → ∃ μ', s_X1_adds_2 F x q at_ many from_ μ = some (0, μ') ∧ QA sh x I J (fun s _ => Pr s) μ') ∧ ∀ r, fnd g c from_ = some r → ∃ μ', s_X1_adds_2 F x q at_ many from_ μ = some (1, μ') ∧ QA sh x I J (R r) μ' := by
  intro c from_ μ hf hq
  have D := L.dl
  have hb := hp.b
  unfold s_X1_adds_2 s_X1_adds_2_l4
  have h := fnd_loop (f := fun s : Int × Me => s_X1_adds_2_l4_st F x q at_ many s.1 s.2) g (p + 1).toNat (QA sh x I J (fun s _ => Pr s))
    (fun r y => y.1 = 1 ∧ QA sh x I J (R r) y.2) (fun y => y.1 = 0 ∧ QA sh x I J (fun s _ => Pr s) y.2) ?_ ?_ c from_ μ hf hq
  · refine ⟨fun h1 => ?_, fun r h1 => ?_⟩
    · obtain ⟨⟨x1, x2⟩, e, rfl, q⟩ := h.1 h1
      exact ⟨x2, e, q⟩
    · obtain ⟨⟨x1, x2⟩, e, rfl, q⟩ := h.2 r h1
      exact ⟨x2, e, q⟩
  · rintro b μ hb2 ⟨I1, rfl, q1, q2⟩
    have hI1 : I1 (x + 5 + 1) 0 = p := by rw [q1 _ (by unfold qS; omega)]; exact hI
    obtain ⟨I2, hI2⟩ : ∃ I2, up1 I1 (x + 545) (upz (I1 (x + 545)) at_ b) = I2 := ⟨_, rfl⟩
    have f2 : AF (qS x) I I2 := by
      refine q1.trans ?_
      rw [← hI2]
      exact AF.one (Or.inl rfl)
    have p2 : I2 (x + 545) = upz (I1 (x + 545)) at_ b := by rw [← hI2, up1_s]
    obtain ⟨h1, h2⟩ := H b I2 (by omega) f2 (by rw [p2]; exact hPr _ _ q2) (by rw [p2, upz_s])
    have run : s_X1_adds_2_l4_st F x q at_ many b (sh, I1, J) = (C (sh, I2, J)).bind fun y => if w32 y.1 = 0 then some (.inl ((b : Int) + 1, y.2)) else some (.inr (1, y.2)) := by
      unfold s_X1_adds_2_l4_st
      rw [l_dk L, bsome, d_f D, bsome, gI_m D.ff, bsome, hI1, w32_id (x := p) (by omega) (by omega), w32_id (x := (b : Int)) (by omega) (by omega), if_neg (by omega), l_pt L, bsome, pt_u L (by omega) (by omega), bsome, hI2, w32_id (x := many) (by omega) (by omega), w32_id (x := (at_ : Int) + 1) (by omega) (by omega), hC]
      by_cases h9 : many ≤ (at_ : Int) + 1
      · rw [if_pos h9, if_pos h9, l_ck L, bsome]
      · rw [if_neg h9, if_neg h9, l_ck L, bsome]
    refine ⟨fun hr => ?_, fun r hr => ?_⟩
    · obtain ⟨μ', e1, e2⟩ := h1 hr
      refine ⟨μ', e2, ?_⟩
      show s_X1_adds_2_l4_st F x q at_ many b (sh, I1, J) = _
      rw [run, e1]
      rfl
    · obtain ⟨μ', e1, e2⟩ := h2 r hr
      refine ⟨(1, μ'), ?_, rfl, e2⟩
      show s_X1_adds_2_l4_st F x q at_ many b (sh, I1, J) = _
      rw [run, e1]
      rfl
  · rintro μ ⟨I1, rfl, q1, q2⟩
    have hI1 : I1 (x + 5 + 1) 0 = p := by rw [q1 _ (by unfold qS; omega)]; exact hI
    refine ⟨(0, (sh, I1, J)), ?_, rfl, I1, rfl, q1, q2⟩
    unfold s_X1_adds_2_l4_st
    dsimp only
    rw [l_dk L, bsome, d_f D, bsome, gI_m D.ff, bsome, hI1, w32_id (x := p) (by omega) (by omega), w32_id (by omega) (by omega), if_pos (by omega)]
/-- with one point more -/
theorem x1_byP (L : CL sh x) {n q at_ b : Nat} {many : Int} {v : Int} {μ' : Me} (ha : at_ < 3) (hpt : I (x + 545) at_ = b) (h : s_ad n 0 x q ((at_ : Int) + 1) many ((b : Int) + 1) (sh, I, J) = some (v, μ')) (hv : v = 0 ∨ v = 1) : s_ad (n + 1) 1 x q at_ many 0 (sh, I, J) = some (v, μ') := by
  rw [ad_1]
  unfold s_X1_byPoints
  rw [l_pt L, bsome, pt_a L (by omega) (by omega), bsome, l_ck L, bsome, hpt, h, bsome, bz2_m hv, bsome]
/-- what a search needs of the memory -/
theorem qs_ln {I' : Nat → Int → Int} {n : Nat} (hl : LN I x p n) (hp : Pp p) (h : AF (qS x) I I') : LN I' x p n := hl.keep hp h (fun a _ _ => by unfold qS; omega)
theorem qs_fm {I' : Nat → Int → Int} {q : Nat} {n : Int} {c : Int → Int} (hc : FM I q p n c) (hq : q + 1 < x + 545) (h : AF (qS x) I I') : FM I' q p n c := hc.keep h (by unfold qS; omega) (by unfold qS; omega)
theorem qs_p {I' : Nat → Int → Int} (hI : I (x + 5 + 1) 0 = p) (h : AF (qS x) I I') : I' (x + 5 + 1) 0 = p := by rw [h _ (by unfold qS; omega)]; exact hI
theorem x1_ad1 (L : CL sh x) (hI : I (x + 5 + 1) 0 = p) (hp : Pp p) {q n : Nat} {c : Int → Int} (Q : FA sh q) (hq : q + 1 < x + 545) (hn : n ≤ 8) (hl : LN I x p n) (hc : FM I q p n c) {μ : Me} (hμ : QA sh x I J (fun _ _ => True) μ) :
    (ad1 p n c = none → ∃ μ', s_ad 12 0 x q 0 1 0 μ = some (0, μ') ∧ QA sh x I J (fun _ _ => True) μ') ∧ ∀ r, ad1 p n c = some r → ∃ μ', s_ad 12 0 x q 0 1 0 μ = some (1, μ') ∧ QA sh x I J (fun s f => s 0 = r.1 ∧ f 0 = r.2) μ' := by
  rw [ad_0 11]
  refine x1_addsL (q := q) (F := s_ad 11) (at_ := 0) (many := 1) L hI hp (by omega) (by omega) (fun a => (bn1 p n c a).map fun b => ((a : Int), b)) (fun _ => True) (fun r s f => s 0 = r.1 ∧ f 0 = r.2) (fun _ _ _ => trivial) (s_ad 11 2 x q 1 0 0) rfl ?_ (p + 1).toNat 0 μ (by omega) hμ
  intro b I' hb f1 _ hpt
  have e3 := x1_bn1 (J := J) (G := s_ad 10) (q := q) (t := b) (many := 1) (at_ := 0) L (qs_p hI f1) hp Q hn hb (by omega) (by omega) hpt (qs_ln hl hp f1) (qs_fm hc hq f1) (by omega)
  rw [ad_2 10, e3]
  have fr : ∀ w : Int, AF (qS x) I' (up1 I' (x + 546) (upz (I' (x + 546)) 0 w)) := fun w => AF.one (Or.inr (Or.inl rfl))
  refine ⟨fun hr => ?_, fun r hr => ?_⟩
  · have hz : lsB p n c b = 0 := by
      rcases lsB_b p n c b with g | g
      · exact g
      · have hr : (bn1 p n c b).map (fun v => ((b : Int), v)) = none := hr
        rw [bn1_s g] at hr
        cases hr
    rw [hz]
    exact ⟨_, rfl, _, rfl, f1.trans (fr _), trivial⟩
  · have hr : (bn1 p n c b).map (fun v => ((b : Int), v)) = some r := hr
    have hz : lsB p n c b = 1 := by
      rcases lsB_b p n c b with g | g
      · rw [bn1_n g] at hr
        cases hr
      · exact g
    rw [bn1_s hz] at hr
    have hr : ((b : Int), lsV p n c b) = r := Option.some.inj hr
    rw [hz]
    refine ⟨_, rfl, _, rfl, f1.trans (fr _), ?_, ?_⟩
    · rw [up1_n _ _ (by omega), ← hr]
      exact hpt
    · rw [up1_s, upz_s, ← hr]
theorem x1_ad2 (L : CL sh x) (hI : I (x + 5 + 1) 0 = p) (hp : Pp p) {q n : Nat} {c : Int → Int} (Q : FA sh q) (hq : q + 1 < x + 545) (hn : n ≤ 8) (hl : LN I x p n) (hc : FM I q p n c) {μ : Me} (hμ : QA sh x I J (fun _ _ => True) μ) :
    (ad2 p n c = none → ∃ μ', s_ad 12 0 x q 0 2 0 μ = some (0, μ') ∧ QA sh x I J (fun _ _ => True) μ') ∧ ∀ r, ad2 p n c = some r → ∃ μ', s_ad 12 0 x q 0 2 0 μ = some (1, μ') ∧ QA sh x I J (fun s f => (s 0 = r.1.1 ∧ s 1 = r.1.2) ∧ f 0 = r.2.1 ∧ f 1 = r.2.2) μ' := by
  have hpb := hp.b
  rw [ad_0 11]
  refine x1_addsL (q := q) (F := s_ad 11) (at_ := 0) (many := 2) L hI hp (by omega) (by omega) (ad2b p n c) (fun _ => True) (fun r s f => (s 0 = r.1.1 ∧ s 1 = r.1.2) ∧ f 0 = r.2.1 ∧ f 1 = r.2.2) (fun _ _ _ => trivial) (s_ad 11 1 x q 0 2 0) rfl ?_ (p + 1).toNat 0 μ (by omega) hμ
  intro a I1 ha f1 _ hpt
  have inner := x1_addsL (q := q) (F := s_ad 9) (at_ := 1) (many := 2) L hI hp (by omega) (by omega) (fun b => (bn2 p n c a b).map fun r => (((a : Int), (b : Int)), r)) (fun s => s 0 = a) (fun r s f => (s 0 = r.1.1 ∧ s 1 = r.1.2) ∧ f 0 = r.2.1 ∧ f 1 = r.2.2) (fun s v h => by rw [upz_n _ _ (by decide)]; exact h) (s_ad 9 2 x q 2 0 0) rfl (J := J) ?_ (p - a).toNat (a + 1) (sh, I1, J) (by omega) ⟨I1, rfl, f1, hpt⟩
  · rw [show ((a + 1 : Nat) : Int) = (a : Int) + 1 by omega] at inner
    refine ⟨fun hr => ?_, fun r hr => ?_⟩
    · obtain ⟨μ', e1, e2⟩ := inner.1 hr
      exact ⟨μ', x1_byP (n := 10) (at_ := 0) L (by omega) hpt e1 (Or.inl rfl), e2.mono (fun _ _ _ => trivial)⟩
    · obtain ⟨μ', e1, e2⟩ := inner.2 r hr
      exact ⟨μ', x1_byP (n := 10) (at_ := 0) L (by omega) hpt e1 (Or.inr rfl), e2⟩
  · intro b I2 hb f2 h0 h1
    obtain ⟨t1, t2⟩ := x1_bn2 (J := J) (f := 7) (k := 0) (many := 2) L (qs_p hI f2) hp (by omega) (by omega) Q (by omega) (by omega) hn ha hb (qs_ln hl hp f2) (qs_fm hc hq f2) h0 h1
    refine ⟨fun hr => ?_, fun r hr => ?_⟩
    · obtain ⟨μ', e1, e2⟩ := t1 (map_n hr)
      exact ⟨μ', e1, e2.qa f2 (fun _ _ => h0)⟩
    · obtain ⟨y, hy, rfl⟩ := ms_ hr
      obtain ⟨μ', e1, e2⟩ := t2 y hy
      exact ⟨μ', e1, e2.qa f2 (fun _ g => ⟨⟨h0, h1⟩, g⟩)⟩
theorem x1_ad3 (L : CL sh x) (hI : I (x + 5 + 1) 0 = p) (hp : Pp p) {q n : Nat} {c : Int → Int} (Q : FA sh q) (hq : q + 1 < x + 545) (hn : n ≤ 8) (hl : LN I x p n) (hc : FM I q p n c) {μ : Me} (hμ : QA sh x I J (fun _ _ => True) μ) :
    (ad3 p n c = none → ∃ μ', s_ad 12 0 x q 0 3 0 μ = some (0, μ') ∧ QA sh x I J (fun _ _ => True) μ') ∧ ∀ r, ad3 p n c = some r → ∃ μ', s_ad 12 0 x q 0 3 0 μ = some (1, μ') ∧ QA sh x I J (fun s f => (s 0 = r.1.1 ∧ s 1 = r.1.2.1 ∧ s 2 = r.1.2.2) ∧ f 0 = r.2.1 ∧ f 1 = r.2.2.1 ∧ f 2 = r.2.2.2) μ' := by
  have hpb := hp.b
  rw [ad_0 11]
  refine x1_addsL (q := q) (F := s_ad 11) (at_ := 0) (many := 3) L hI hp (by omega) (by omega) (ad3b p n c) (fun _ => True) (fun r s f => (s 0 = r.1.1 ∧ s 1 = r.1.2.1 ∧ s 2 = r.1.2.2) ∧ f 0 = r.2.1 ∧ f 1 = r.2.2.1 ∧ f 2 = r.2.2.2) (fun _ _ _ => trivial) (s_ad 11 1 x q 0 3 0) rfl ?_ (p + 1).toNat 0 μ (by omega) hμ
  intro a I1 ha f1 _ hpt
  have inner := x1_addsL (q := q) (F := s_ad 9) (at_ := 1) (many := 3) L hI hp (by omega) (by omega) (ad3c p n c a) (fun s => s 0 = a) (fun r s f => (s 0 = r.1.1 ∧ s 1 = r.1.2.1 ∧ s 2 = r.1.2.2) ∧ f 0 = r.2.1 ∧ f 1 = r.2.2.1 ∧ f 2 = r.2.2.2) (fun s v h => by rw [upz_n _ _ (by decide)]; exact h) (s_ad 9 1 x q 1 3 0) rfl (J := J) ?_ (p - a).toNat (a + 1) (sh, I1, J) (by omega) ⟨I1, rfl, f1, hpt⟩
  · rw [show ((a + 1 : Nat) : Int) = (a : Int) + 1 by omega] at inner
    refine ⟨fun hr => ?_, fun r hr => ?_⟩
    · obtain ⟨μ', e1, e2⟩ := inner.1 hr
      exact ⟨μ', x1_byP (n := 10) (at_ := 0) L (by omega) hpt e1 (Or.inl rfl), e2.mono (fun _ _ _ => trivial)⟩
    · obtain ⟨μ', e1, e2⟩ := inner.2 r hr
      exact ⟨μ', x1_byP (n := 10) (at_ := 0) L (by omega) hpt e1 (Or.inr rfl), e2⟩
  · intro b I2 hb f2 h0 h1
    have inn2 := x1_addsL (q := q) (F := s_ad 7) (at_ := 2) (many := 3) L hI hp (by omega) (by omega) (fun d => (bn3 p n c a b d).map fun r => (((a : Int), (b : Int), (d : Int)), r)) (fun s => s 0 = a ∧ s 1 = b) (fun r s f => (s 0 = r.1.1 ∧ s 1 = r.1.2.1 ∧ s 2 = r.1.2.2) ∧ f 0 = r.2.1 ∧ f 1 = r.2.2.1 ∧ f 2 = r.2.2.2) (fun s v h => ⟨by rw [upz_n _ _ (by decide)]; exact h.1, by rw [upz_n _ _ (by decide)]; exact h.2⟩) (s_ad 7 2 x q 3 0 0) rfl (J := J) ?_ (p - b).toNat (b + 1) (sh, I2, J) (by omega) ⟨I2, rfl, f2, h0, h1⟩
    · rw [show ((b + 1 : Nat) : Int) = (b : Int) + 1 by omega] at inn2
      refine ⟨fun hr => ?_, fun r hr => ?_⟩
      · obtain ⟨μ', e1, e2⟩ := inn2.1 hr
        exact ⟨μ', x1_byP (n := 8) (at_ := 1) L (by omega) h1 e1 (Or.inl rfl), e2.mono (fun s _ g => g.1)⟩
      · obtain ⟨μ', e1, e2⟩ := inn2.2 r hr
        exact ⟨μ', x1_byP (n := 8) (at_ := 1) L (by omega) h1 e1 (Or.inr rfl), e2⟩
    · rintro d I3 hd f3 ⟨g0, g1⟩ g2
      obtain ⟨t1, t2⟩ := x1_bn3 (J := J) (f := 4) L (qs_p hI f3) hp Q hq hn ha hb hd (qs_ln hl hp f3) (qs_fm hc hq f3) g0 g1 g2
      refine ⟨fun hr => ?_, fun r hr => ?_⟩
      · obtain ⟨μ', e1, e2⟩ := t1 (map_n hr)
        exact ⟨μ', e1, e2.qa f3 (fun _ _ => ⟨g0, g1⟩)⟩
      · obtain ⟨y, hy, rfl⟩ := ms_ hr
        obtain ⟨μ', e1, e2⟩ := t2 y hy
        exact ⟨μ', e1, e2.qa f3 (fun _ g => ⟨⟨g0, g1, g2⟩, g⟩)⟩
/-- what is told -/
theorem x1_b115 (L : CL sh x) {many k : Int} (hm : 0 ≤ many ∧ many ≤ 3) (hk : -1 ≤ k ∧ k < 2147483648) : s_X1_powers_b115 x k many (sh, I, J) = some (.inr (tlP many (I (x + 545)) (I (x + 546)) k, (sh, I, J))) := by
  unfold s_X1_powers_b115 tlP
  rw [w32_id (x := many) (by omega) (by omega), w32_id (x := k) (by omega) hk.2, show w32 (-1) = -1 from rfl, show w32 10 = 10 from rfl, if_neg (by omega)]
  by_cases h1 : k = -1
  · rw [if_pos h1, if_pos h1]
  rw [if_neg h1, if_neg h1]
  by_cases h2 : many ≤ k
  · rw [if_pos h2, if_neg (show ¬(0 ≤ k ∧ k < many) by omega)]
    by_cases h3 : k < 10
    · rw [if_pos h3, if_neg (show ¬(10 ≤ k ∧ k < 10 + many) by omega)]
    · rw [if_neg h3, w32_id (x := k - 10) (by omega) (by omega)]
      by_cases h4 : many ≤ k - 10
      · rw [if_pos h4, if_neg (show ¬(10 ≤ k ∧ k < 10 + many) by omega)]
      · rw [if_neg h4, if_pos (show 10 ≤ k ∧ k < 10 + many by omega), l_nb L, bsome, nb_a L (by omega) (by omega), bsome]
  · rw [if_neg h2, if_pos (show 0 ≤ k ∧ k < many by omega), l_pt L, bsome, pt_a L (by omega) (by omega), bsome]
theorem x1_l77 (L : CL sh x) (hI : I (x + 5 + 1) 0 = p) (hp : Pp p) {q : Nat} {F : Fo} {k : Int} (Q : FA sh q) (hq : q + 1 < x + 545) (hn : F.1 ≤ 8) (hk : -1 ≤ k ∧ k < 2147483648) (hl : LN I x p F.1) (hc : FM I q p F.1 F.2) (h0 : nzI p F.2 (F.1 + 1) = 0) :
    ∃ I', s_X1_powers_l77 x k q (-1) 1 (sh, I, J) = some (.inr (pwP p F k, (sh, I', J))) ∧ AF (qS x) I I' := by
  have z0 : w32 0 = 0 := rfl
  have z1 : ¬ w32 1 = 0 := by decide
  unfold pwP
  rw [if_neg (by omega)]
  -- a turn
  have no : ∀ (i : Int) (μ μ' : Me), (1 ≤ i ∧ i ≤ 3) → (∃ I', μ = (sh, I', J)) → s_ad 12 0 x q 0 i 0 μ = some (0, μ') → s_X1_powers_l77 x k q (-1) i μ = s_X1_powers_l77 x k q (-1) (i + 1) μ' := by
    rintro i μ μ' hi ⟨I', rfl⟩ e
    rw [e_X1_powers_l77]
    unfold s_X1_powers_l77_st
    rw [show w32 3 = 3 from rfl, w32_id (x := i) (by omega) (by omega), if_neg (by omega), if_pos (show w32 (-1) = w32 (-1) from rfl), l_ck L, bsome, e, bsome]
    dsimp only
    rw [if_pos z0]
    rfl
  have yes : ∀ (i : Int) (μ : Me) (I2 : Nat → Int → Int), (1 ≤ i ∧ i ≤ 3) → (∃ I', μ = (sh, I', J)) → s_ad 12 0 x q 0 i 0 μ = some (1, (sh, I2, J)) → s_X1_powers_l77 x k q (-1) i μ = some (.inr (tlP i (I2 (x + 545)) (I2 (x + 546)) k, (sh, I2, J))) := by
    rintro i μ I2 hi ⟨I', rfl⟩ e
    rw [e_X1_powers_l77]
    unfold s_X1_powers_l77_st
    rw [show w32 3 = 3 from rfl, w32_id (x := i) (by omega) (by omega), if_neg (by omega), if_pos (show w32 (-1) = w32 (-1) from rfl), l_ck L, bsome, e, bsome]
    dsimp only
    rw [if_neg z1, bsome]
    show s_X1_powers_l77 x k q i (i + 1) (sh, I2, J) = _
    rw [e_X1_powers_l77]
    unfold s_X1_powers_l77_st
    rw [show w32 3 = 3 from rfl, show w32 (-1) = -1 from rfl, w32_id (x := i) (by omega) (by omega), w32_id (x := i + 1) (by omega) (by omega), x1_b115 L (by omega) hk]
    by_cases h3 : 3 < i + 1
    · rw [if_pos h3]
      rfl
    · rw [if_neg h3, if_neg (by omega)]
      rfl
  have q0 : QA sh x I J (fun _ _ => True) (sh, I, J) := ⟨I, rfl, AF.refl, trivial⟩
  have qa : ∀ {A : (Int → Int) → (Int → Int) → Prop} {μ : Me}, QA sh x I J A μ → ∃ I', μ = (sh, I', J) := fun h => by
    obtain ⟨I', e, -⟩ := h
    exact ⟨I', e⟩
  obtain ⟨a1, a2⟩ := x1_ad1 (J := J) L hI hp Q hq hn hl hc q0
  cases h1 : ad1 p F.1 F.2 with
  | some r =>
    obtain ⟨μ', e1, I2, rfl, f2, s0, n0⟩ := a2 r h1
    refine ⟨I2, ?_, f2⟩
    rw [yes 1 _ I2 (by omega) ⟨I, rfl⟩ e1]
    dsimp only
    rw [tlP_congr (s' := fun _ => r.1) (f' := fun _ => r.2) k (fun j j0 j1 => by
      have : j = 0 := by omega
      rw [this]
      exact ⟨s0, n0⟩)]
  | none =>
    obtain ⟨μ1, e1, q1⟩ := a1 h1
    rw [no 1 _ μ1 (by omega) ⟨I, rfl⟩ e1, show (1 : Int) + 1 = 2 from rfl]
    dsimp only
    obtain ⟨b1, b2⟩ := x1_ad2 (J := J) L hI hp Q hq hn hl hc q1
    cases h2 : ad2 p F.1 F.2 with
    | some r =>
      obtain ⟨μ', e2, I2, rfl, f2, ⟨s0, s1⟩, n0, n1⟩ := b2 r h2
      refine ⟨I2, ?_, f2⟩
      rw [yes 2 _ I2 (by omega) (qa q1) e2]
      dsimp only
      rw [tlP_congr (s' := two2 r.1) (f' := two2 r.2) k (fun j j0 j1 => by
        have : j = 0 ∨ j = 1 := by omega
        rcases this with e | e <;> rw [e]
        · exact ⟨s0, n0⟩
        · exact ⟨s1, n1⟩)]
    | none =>
      obtain ⟨μ2, e2, q2⟩ := b1 h2
      rw [no 2 _ μ2 (by omega) (qa q1) e2, show (2 : Int) + 1 = 3 from rfl]
      dsimp only
      obtain ⟨c1, c2⟩ := x1_ad3 (J := J) L hI hp Q hq hn hl hc q2
      cases h3 : ad3 p F.1 F.2 with
      | some r =>
        obtain ⟨μ', e3, I2, rfl, f2, ⟨s0, s1, s2⟩, n0, n1, n2⟩ := c2 r h3
        refine ⟨I2, ?_, f2⟩
        rw [yes 3 _ I2 (by omega) (qa q2) e3]
        dsimp only
        rw [tlP_congr (s' := thr3 r.1) (f' := thr3 r.2) k (fun j j0 j1 => by
          have : j = 0 ∨ j = 1 ∨ j = 2 := by omega
          rcases this with e | e | e <;> rw [e]
          · exact ⟨s0, n0⟩
          · exact ⟨s1, n1⟩
          · exact ⟨s2, n2⟩)]
      | none =>
        obtain ⟨μ3, e3, I3, rfl, f3, -⟩ := c1 h3
        refine ⟨I3, ?_, f3⟩
        rw [no 3 _ _ (by omega) (qa q2) e3, show (3 : Int) + 1 = 4 from rfl, e_X1_powers_l77]
        unfold s_X1_powers_l77_st s_X1_powers_b115
        rw [if_pos (show w32 3 < w32 4 by decide), if_pos (show w32 (-1) = w32 (-1) from rfl)]
        rfl
theorem x_powers (L : CL sh x) (R : Room sh) (hS : SR sh I (x + 16) W) (hI : I (x + 5 + 1) 0 = W 0) (hW : WI W) {f k : Int} (hf : i32 f) (hk : i32 k) :
    ((0 ≤ f ∧ f < W 1) → (0 < fD W f ∧ -1 ≤ k) → CG (s_X1_powers x f k (sh, I, J)) sh I J x (pwP (W 0) (fF W f) k)) ∧
    (¬(0 ≤ f ∧ f < W 1) → CB (s_X1_powers x f k (sh, I, J)) sh I J 3) ∧ ((0 ≤ f ∧ f < W 1) → ¬(0 < fD W f ∧ -1 ≤ k) → CB (s_X1_powers x f k (sh, I, J)) sh I J 0) := by
  have hc1 := hW.c1
  have hp := hW.pp
  have hb := hp.b
  have D := L.dl
  have z0 : w32 0 = 0 := rfl
  have z1 : ¬ w32 1 = 0 := by decide
  obtain ⟨y1, y2⟩ := x1_formAt (J := J) L R (n := W 1) hS.1.1.2.1 (by omega) hf
  unfold i32 at hk
  unfold s_X1_powers
  rw [l_ck L, bsome]
  refine ⟨fun h g => ?_, fun h => ?_, fun h g => ?_⟩
  · obtain ⟨f1, f2⟩ := hS.ff hW h.1 h.2
    have fd := (fF_1 (hW.f h.1 h.2)).1
    have Q := L.q (k := f) (by omega)
    have hqb : x + 16 ≤ x + 16 + 13 + 2 * f.toNat ∧ x + 16 + 13 + 2 * f.toNat ≤ x + 505 := by omega
    rw [y1 h, xb_r]
    obtain ⟨q, hq⟩ : ∃ q, x + 16 + 13 + 2 * f.toNat = q := ⟨_, rfl⟩
    obtain ⟨F, hF⟩ : ∃ F, fF W f = F := ⟨_, rfl⟩
    rw [hq] at f1 Q hqb ⊢
    rw [hF] at f1 f2 fd ⊢
    dsimp only
    rw [f_gI Q, bsome, f1.1, w32_id (x := (F.1 : Int)) (by omega) (by omega), if_neg (by omega), w32_id hk.1 hk.2, show w32 (-1) = -1 from rfl, if_neg (by omega), x1_must1, xb_r]
    have lines : ∀ (m i : Nat) (I1 : Nat → Int → Int), i + m = (W 0 + 1).toNat → AF (fun a => aF (x + 509) a ∨ (x + 525 ≤ a ∧ a ≤ x + 544)) I I1 → (∀ t : Nat, t < i → ∀ k : Int, 0 ≤ k → k ≤ F.1 → I1 (x + 525 + t) k = lnP (W 0) F.1 t k % W 0) →
        ∃ I2, s_X1_powers_l29 x k q i (sh, I1, J) = s_X1_powers_b60 x k q (sh, I2, J) ∧ AF (fun a => aF (x + 509) a ∨ (x + 525 ≤ a ∧ a ≤ x + 544)) I I2 ∧ LN I2 x (W 0) F.1 := by
      intro m
      induction m with
      | zero =>
        intro i I1 hi f9 hl
        have hI1 : I1 (x + 5 + 1) 0 = W 0 := by rw [f9 _ (by omega)]; exact hI
        refine ⟨I1, ?_, f9, fun t ht k u v => hl t (by omega) k u v⟩
        rw [e_X1_powers_l29]
        unfold s_X1_powers_l29_st
        rw [l_dk L, bsome, d_f D, bsome, gI_m D.ff, bsome, hI1, w32_id (x := W 0) (by omega) (by omega), w32_id (by omega) (by omega), if_pos (by omega)]
        cases s_X1_powers_b60 x k q (sh, I1, J) <;> rfl
      | succ m ih =>
        intro i I1 hi f9 hl
        have hI1 : I1 (x + 5 + 1) 0 = W 0 := by rw [f9 _ (by omega)]; exact hI
        have g1 := f1.keep f9 (by omega) (by omega)
        obtain ⟨I2, e2, l2, k2⟩ := x1_line (J := J) L hI1 hp (t := i) (n := F.1) (by omega) f2
        obtain ⟨I3, e3, f3, l3⟩ := ih (i + 1) I2 (by omega) (f9.trans (k2.mono (fun a ha => by omega))) (fun t ht k u v => by
          by_cases e : t = i
          · rw [e]
            exact l2 k u v
          · rw [k2 _ (by omega)]
            exact hl t (by omega) k u v)
        refine ⟨I3, ?_, f3, l3⟩
        rw [← e3, e_X1_powers_l29]
        unfold s_X1_powers_l29_st
        rw [l_dk L, bsome, d_f D, bsome, gI_m D.ff, bsome, hI1, w32_id (x := W 0) (by omega) (by omega), w32_id (x := (i : Int)) (by omega) (by omega), if_neg (by omega), f_gI Q, bsome, g1.1, l_ck L, bsome, e2, bsome]
        rfl
    obtain ⟨I2, e2, k2, l2⟩ := lines (W 0 + 1).toNat 0 I (by omega) AF.refl (fun t ht => by omega)
    rw [show ((0 : Nat) : Int) = 0 from rfl] at e2
    have g2 := f1.keep k2 (by omega) (by omega)
    have hI2 : I2 (x + 5 + 1) 0 = W 0 := by rw [k2 _ (by omega)]; exact hI
    have k2' : AF (xS x) I I2 := k2.mono (fun a ha => by unfold xS; omega)
    have en := x8_isNought (J := J) Q hp (by omega) g2
    rw [show ((F.1 : Int) + 1).toNat = F.1 + 1 by omega] at en
    rw [e2]
    unfold s_X1_powers_b60
    rw [f_ck Q, bsome, en, bsome]
    dsimp only
    rcases (nzI_iff (W 0) F.2 (F.1 + 1)).1 with hn | hn
    · obtain ⟨I3, e3, f3⟩ := x1_l77 (J := J) L hI2 hp Q (by omega) f2 (k := k) (by omega) l2 g2 hn
      rw [hn, if_pos z0, e3]
      exact ⟨I3, rfl, k2'.trans (f3.mono (fun a ha => by unfold qS at ha; unfold xS; omega))⟩
    · rw [hn, if_neg z1, e_X1_powers_l77]
      unfold s_X1_powers_l77_st
      rw [if_neg (show ¬ w32 3 < w32 1 by decide), if_neg (show ¬ w32 0 = w32 (-1) by decide), x1_b115 L (many := 0) (by omega) (k := k) (by omega)]
      refine ⟨I2, ?_, k2'⟩
      unfold pwP
      rw [hn, if_pos rfl, tlP_congr (s' := fun _ => 0) (f' := fun _ => 0) k (fun j j0 j1 => by omega)]
      rfl
  · have := y2 h
    unfold CB at this ⊢
    rw [this, xb_l]
  · obtain ⟨f1, f2⟩ := hS.ff hW h.1 h.2
    have fd := (fF_1 (hW.f h.1 h.2)).1
    have Q := L.q (k := f) (by omega)
    unfold CB
    rw [y1 h, xb_r]
    dsimp only
    rw [f_gI Q, bsome, f1.1, w32_id (x := ((fF W f).1 : Int)) (by omega) (by omega), w32_id hk.1 hk.2, show w32 (-1) = -1 from rfl]
    by_cases h1 : ((fF W f).1 : Int) ≤ 0
    · rw [if_pos h1, x1_must0 R, xb_l]
    · rw [if_neg h1, if_pos (by omega), x1_must0 R, xb_l]
end CPo
