/-! the component: the layout where references move -/
set_option maxRecDepth 100000
/-- types and lengths of a stretch stay -/
def TN (sh sh' : Sh) (x : Nat) : Prop := ∀ a : Nat, x ≤ a → a ≤ x + 677 → sh'.2.1 a = sh.2.1 a ∧ sh'.2.2.1 a = sh.2.2.1 a
/-- the rows' order, the acts' order -/
def RP2 (sh : Sh) (x : Nat) (π : Nat → Nat) : Prop := (∀ k : Nat, k < 8 → π k < 8 ∧ sh.2.2.2 (x + 515) k = some (x + 516 + π k)) ∧ ∀ i j : Nat, i < 8 → j < 8 → π i = π j → i = j
def AP2 (sh : Sh) (S : Nat) (π : Nat → Nat) : Prop := (∀ k : Nat, k < 40 → π k < 40 ∧ sh.2.2.2 (S + 12) k = some (S + 45 + 5 * π k)) ∧ ∀ i j : Nat, i < 40 → j < 40 → π i = π j → i = j
section CLx
variable {sh sh' : Sh} {I J : Nat → Int → Int} {x : Nat} {p : Int} {W : Int → Int}
theorem AR.ext {a t : Nat} {n : Int} (h : AR sh a t n) (e : sh'.2.1 a = sh.2.1 a ∧ sh'.2.2.1 a = sh.2.2.1 a) : AR sh' a t n := ⟨e.1.trans h.1, e.2.trans h.2.1, h.2.2⟩
theorem FA.ext {q : Nat} (h : FA sh q) (hT : TN sh sh' x) (hr : sh'.2.2.2 q = sh.2.2.2 q) (h0 : x ≤ q) (h1 : q + 1 ≤ x + 677) : FA sh' q := ⟨(hT q h0 (by omega)).1.trans h.1, by rw [hr]; exact h.2.1, h.2.2.ext (hT (q + 1) (by omega) h1)⟩
theorem DL.ext {d : Nat} (h : DL sh d) (hT : TN sh sh' x) (hr : ∀ a, d ≤ a → a ≤ d + 10 → sh'.2.2.2 a = sh.2.2.2 a) (h0 : x ≤ d) (h1 : d + 10 ≤ x + 677) : DL sh' d := by
  obtain ⟨a1, ⟨a2, a3⟩, ⟨a4, a5⟩, ⟨a6, a7⟩, ⟨a8, a9⟩, ⟨b1, b2⟩, b3, b4⟩ := h
  have e := hr d (by omega) (by omega)
  refine ⟨(hT d h0 (by omega)).1.trans a1, ⟨by rw [e]; exact a2, (hT _ (by omega) (by omega)).1.trans a3⟩, ⟨by rw [e]; exact a4, a5.ext hT (hr _ (by omega) (by omega)) (by omega) (by omega)⟩, ⟨by rw [e]; exact a6, a7.ext hT (hr _ (by omega) (by omega)) (by omega) (by omega)⟩, ⟨by rw [e]; exact a8, a9.ext hT (hr _ (by omega) (by omega)) (by omega) (by omega)⟩, ⟨by rw [e]; exact b1, b2.ext hT (hr _ (by omega) (by omega)) (by omega) (by omega)⟩, by rw [e]; exact b3, b4.ext (hT _ (by omega) (by omega))⟩
theorem ST.ext {S : Nat} (h : ST sh S) (hT : TN sh sh' x) (hr : ∀ a, S ≤ a → a ≤ S + 244 → a ≠ S + 11 → a ≠ S + 12 → sh'.2.2.2 a = sh.2.2.2 a) (h0 : x ≤ S) (h1 : S + 244 ≤ x + 677) (hA : ∃ π, AP2 sh' S π) : ST sh' S := by
  obtain ⟨a1, ⟨a2, a3⟩, ⟨a4, a5⟩, ⟨a6, a7⟩, ⟨a8, a9⟩, b1, b2, b3, -⟩ := h
  have e := hr S (by omega) (by omega) (by omega) (by omega)
  refine ⟨(hT S h0 (by omega)).1.trans a1, ⟨by rw [e]; exact a2, a3.ext (hT _ (by omega) (by omega))⟩, ⟨by rw [e]; exact a4, a5.ext (hT _ (by omega) (by omega))⟩, ⟨by rw [e]; exact a6, a7.ext (hT _ (by omega) (by omega))⟩, ⟨by rw [e]; exact a8, a9.ext (hT _ (by omega) (by omega))⟩, fun k hk => ?_, fun k hk => ?_, fun k hk => ?_, hA⟩
  · obtain ⟨c1, c2⟩ := b1 k hk
    exact ⟨by rw [hr (S + 1) (by omega) (by omega) (by omega) (by omega)]; exact c1, c2.ext hT (hr _ (by omega) (by omega) (by omega) (by omega)) (by omega) (by omega)⟩
  · obtain ⟨c1, c2⟩ := b2 k hk
    exact ⟨by rw [hr (S + 2) (by omega) (by omega) (by omega) (by omega)]; exact c1, c2.ext (hT _ (by omega) (by omega))⟩
  · obtain ⟨c1, ⟨c2, c3⟩, c4, c5⟩ := b3 k hk
    have e2 := hr (S + 45 + 5 * k) (by omega) (by omega) (by omega) (by omega)
    exact ⟨(hT _ (by omega) (by omega)).1.trans c1, ⟨by rw [e2]; exact c2, c3.ext hT (hr _ (by omega) (by omega) (by omega) (by omega)) (by omega) (by omega)⟩, by rw [e2]; exact c4, c5.ext hT (hr _ (by omega) (by omega) (by omega) (by omega)) (by omega) (by omega)⟩
theorem ST.ap {S : Nat} (h : ST sh S) : ∃ π, AP2 sh S π := h.2.2.2.2.2.2.2.2
theorem CL.rp (L : CL sh x) : ∃ π, RP2 sh x π := L.2.2.2.2.2.2.2.2.1.2.2.2
theorem CL.rw (L : CL sh x) : sh.2.2.2 x 9 = some (x + 515) ∧ AR sh (x + 515) 105 8 ∧ ∀ k : Nat, k < 8 → AR sh (x + 516 + k) 101 492 := ⟨L.2.2.2.2.2.2.2.2.1.1, L.2.2.2.2.2.2.2.2.1.2.1, L.2.2.2.2.2.2.2.2.1.2.2.1⟩
/-- all that isn't moved stays where it is -/
theorem CL.ext (L : CL sh x) (hT : TN sh sh' x) (hr : ∀ a, x ≤ a → a ≤ x + 677 → a ≠ x + 515 → a ≠ x + 28 → a ≠ x + 27 → a ≠ x + 272 → a ≠ x + 273 → sh'.2.2.2 a = sh.2.2.2 a) (h3 : ∃ π, RP2 sh' x π) (h4 : ∃ π, AP2 sh' (x + 16) π) (h5 : ∃ π, AP2 sh' (x + 261) π) : CL sh' x := by
  obtain ⟨⟨v1, ⟨v2, v3⟩, ⟨v4, v5, v6⟩, v7⟩, ⟨r0, r1, ⟨r2, r3⟩, ⟨r4, r5⟩, r6, r7⟩, ⟨s0, s1⟩, ⟨m0, m1⟩, ⟨w0, w1⟩, ⟨o0, o1⟩, ⟨t0, t1⟩, ⟨d0, d1⟩, ⟨R0, R1, R2, -⟩, ⟨l0, l1, l2⟩, ⟨p0, p1⟩, ⟨n0, n1⟩, ⟨h0, h1⟩, ⟨e0, e1⟩, f0, f1⟩ := L
  have ex := hr x (by omega) (by omega) (by omega) (by omega) (by omega) (by omega) (by omega)
  have er := hr (x + 1) (by omega) (by omega) (by omega) (by omega) (by omega) (by omega) (by omega)
  have fx : ∀ q, FA sh q → (x + 500 ≤ q ∧ q ≤ x + 676 ∧ q ≠ x + 515) → FA sh' q := fun q F h => F.ext hT (hr _ (by omega) (by omega) (by omega) (by omega) (by omega) (by omega) (by omega)) (by omega) (by omega)
  refine ⟨⟨(hT x (by omega) (by omega)).1.trans v1, ⟨by rw [ex]; exact v2, v3.ext hT (fun a g1 g2 => hr _ (by omega) (by omega) (by omega) (by omega) (by omega) (by omega) (by omega)) (by omega) (by omega)⟩, ⟨by rw [ex]; exact v4, (hT (x + 506) (by omega) (by omega)).1.trans v5, (hT (x + 506) (by omega) (by omega)).2.trans v6⟩, fun k hk => ?_⟩,
    ⟨by rw [ex]; exact r0, (hT (x + 1) (by omega) (by omega)).1.trans r1, ⟨by rw [er]; exact r2, r3.ext (hT _ (by omega) (by omega))⟩, ⟨by rw [er]; exact r4, (hT (x + 1 + 2) (by omega) (by omega)).1.trans r5⟩, by rw [er]; exact r6, (hT (x + 1 + 3) (by omega) (by omega)).1.trans r7⟩,
    ⟨by rw [ex]; exact s0, s1.ext hT (fun a g1 g2 g3 g4 => hr _ (by omega) (by omega) (by omega) (by omega) (by omega) (by omega) (by omega)) (by omega) (by omega) h4⟩,
    ⟨by rw [ex]; exact m0, m1.ext hT (fun a g1 g2 g3 g4 => hr _ (by omega) (by omega) (by omega) (by omega) (by omega) (by omega) (by omega)) (by omega) (by omega) h5⟩,
    ⟨by rw [ex]; exact w0, fx _ w1 (by omega)⟩, ⟨by rw [ex]; exact o0, fx _ o1 (by omega)⟩, ⟨by rw [ex]; exact t0, fx _ t1 (by omega)⟩, ⟨by rw [ex]; exact d0, fx _ d1 (by omega)⟩,
    ⟨by rw [ex]; exact R0, R1.ext (hT _ (by omega) (by omega)), fun k hk => (R2 k hk).ext (hT _ (by omega) (by omega)), h3⟩,
    ⟨by rw [ex]; exact l0, l1.ext (hT _ (by omega) (by omega)), fun k hk => ⟨by rw [hr (x + 524) (by omega) (by omega) (by omega) (by omega) (by omega) (by omega) (by omega)]; exact (l2 k hk).1, (l2 k hk).2.ext (hT _ (by omega) (by omega))⟩⟩,
    ⟨by rw [ex]; exact p0, p1.ext (hT _ (by omega) (by omega))⟩, ⟨by rw [ex]; exact n0, n1.ext (hT _ (by omega) (by omega))⟩, ⟨by rw [ex]; exact h0, h1.ext (hT _ (by omega) (by omega))⟩, ⟨by rw [ex]; exact e0, e1.ext (hT _ (by omega) (by omega))⟩, by rw [ex]; exact f0, f1.ext (hT _ (by omega) (by omega))⟩
  obtain ⟨c1, c2⟩ := v7 k hk
  exact ⟨by rw [hr (x + 506) (by omega) (by omega) (by omega) (by omega) (by omega) (by omega) (by omega)]; exact c1, fx _ c2 (by omega)⟩
/-- only the rows' order moves -/
def SX (x : Nat) (sh sh' : Sh) : Prop := sh'.1 = sh.1 ∧ sh'.2.1 = sh.2.1 ∧ sh'.2.2.1 = sh.2.2.1 ∧ ∀ a : Nat, a ≠ x + 515 → sh'.2.2.2 a = sh.2.2.2 a
theorem SX.refl : SX x sh sh := ⟨rfl, rfl, rfl, fun _ _ => rfl⟩
theorem SX.trans {sh2 : Sh} (h : SX x sh sh') (g : SX x sh' sh2) : SX x sh sh2 := ⟨g.1.trans h.1, g.2.1.trans h.2.1, g.2.2.1.trans h.2.2.1, fun a ha => (g.2.2.2 a ha).trans (h.2.2.2 a ha)⟩
theorem AP2.eq {S : Nat} {π : Nat → Nat} (h : AP2 sh S π) (e : sh'.2.2.2 (S + 12) = sh.2.2.2 (S + 12)) : AP2 sh' S π := ⟨fun k hk => by rw [e]; exact h.1 k hk, h.2⟩
theorem RP2.eq {π : Nat → Nat} (h : RP2 sh x π) (e : sh'.2.2.2 (x + 515) = sh.2.2.2 (x + 515)) : RP2 sh' x π := ⟨fun k hk => by rw [e]; exact h.1 k hk, h.2⟩
theorem CL.sx (L : CL sh x) (h : SX x sh sh') (h3 : ∃ π, RP2 sh' x π) : CL sh' x := by
  obtain ⟨π1, a1⟩ := L.st.ap
  obtain ⟨π2, a2⟩ := L.im.ap
  exact L.ext (fun a _ _ => ⟨by rw [h.2.1], by rw [h.2.2.1]⟩) (fun a _ _ g _ _ _ _ => h.2.2.2 a g) h3 ⟨π1, a1.eq (h.2.2.2 _ (by omega))⟩ ⟨π2, a2.eq (h.2.2.2 _ (by omega))⟩
theorem SA.ext (h1 : ∀ a, sh.2.1 a = 2 ∨ sh.2.1 a = 10 ∨ sh.2.1 a = 11 ∨ sh.2.1 a = 12 ∨ sh.2.1 a = 13 ∨ sh.2.1 a = 14 → sh'.2.1 a = sh.2.1 a ∧ sh'.2.2.2 a = sh.2.2.2 a) : ∀ (n : Nat) (t : Tr n) (a : Nat), SA sh I n t a → SA sh' I n t a
  | 0, t, _, _ => Empty.elim t
  | _ + 1, .inl _, a, g => (h1 a (Or.inl g)).1.trans g
  | _ + 1, .inr (.inl v), a, g => ⟨(h1 a (Or.inr (Or.inl g.1))).1.trans g.1, g.2⟩
  | n + 1, .inr (.inr (.inl t)), a, ⟨g1, b, g2, g3⟩ => by
    obtain ⟨e1, e2⟩ := h1 a (Or.inr (Or.inr (Or.inl g1)))
    exact ⟨e1.trans g1, b, by rw [e2]; exact g2, SA.ext h1 n t b g3⟩
  | n + 1, .inr (.inr (.inr (o, t1, t2))), a, ⟨⟨g1, g2⟩, b, c, ⟨g3, g4⟩, g5, g6⟩ => by
    have hh : sh.2.1 a = 12 ∨ sh.2.1 a = 13 ∨ sh.2.1 a = 14 := by
      rw [g1]
      split
      · exact Or.inr (Or.inr rfl)
      · split
        · exact Or.inr (Or.inl rfl)
        · exact Or.inl rfl
    obtain ⟨e1, e2⟩ := h1 a (by omega)
    exact ⟨⟨e1.trans g1, g2⟩, b, c, ⟨by rw [e2]; exact g3, by rw [e2]; exact g4⟩, SA.ext h1 n t1 b g5, SA.ext h1 n t2 c g6⟩
/-- the state where references of others move -/
theorem SR.ext {S : Nat} (h : SR sh I S W) (h1 : ∀ a, sh.2.1 a = 2 ∨ sh.2.1 a = 10 ∨ sh.2.1 a = 11 ∨ sh.2.1 a = 12 ∨ sh.2.1 a = 13 ∨ sh.2.1 a = 14 → sh'.2.1 a = sh.2.1 a ∧ sh'.2.2.2 a = sh.2.2.2 a) (h2 : sh'.2.2.2 (S + 11) = sh.2.2.2 (S + 11)) (h3 : sh'.2.2.2 (S + 12) = sh.2.2.2 (S + 12)) : SR sh' I S W := by
  obtain ⟨a1, a2, a3, a4, G, a5, a6⟩ := h
  refine ⟨a1, a2, a3, fun s hs => ?_, G, a5, fun k hk => ?_⟩
  · obtain ⟨t, a, b1, b2, b3, b4⟩ := a4 s hs
    exact ⟨t, a, by rw [h2]; exact b1, b2, SA.ext h1 _ _ _ b3, b4⟩
  · obtain ⟨i, b1, b2, b3⟩ := a6 k hk
    exact ⟨i, b1, by rw [h3]; exact b2, b3⟩
theorem SR.sx {S : Nat} (L : CL sh x) (h : SR sh I S W) (g : SX x sh sh') (hS : S = x + 16 ∨ S = x + 261) : SR sh' I S W := by
  have t := L.rw.2.1.1
  exact h.ext (fun a ha => ⟨by rw [g.2.1], g.2.2.2 a (fun e => by rw [e] at ha; omega)⟩) (g.2.2.2 _ (by omega)) (g.2.2.2 _ (by omega))
end CLx
