/-! the world's parts, the state's parts: what stays -/
set_option maxRecDepth 100000
theorem LSt.ext {W W' : Int → Int} {s : Int} : ∀ (l : List (Int × Int)) (i : Int), 0 ≤ i → i + l.length ≤ 200 → (∀ j, 198 + 401 * s ≤ j → j < 198 + 401 * (s + 1) → W' j = W j) → LSt W s i l → LSt W' s i l
  | [], _, _, _, _, _ => trivial
  | o :: r, i, h0, h1, e, ⟨⟨g1, g2⟩, g3⟩ => by
    have h1 : i + ((r.length + 1 : Nat) : Int) ≤ 200 := h1
    exact ⟨⟨by rw [e _ (by omega) (by omega)]; exact g1, by rw [e _ (by omega) (by omega)]; exact g2⟩, LSt.ext r (i + 1) (by omega) (by omega) e g3⟩
theorem SgW.ext {W W' : Int → Int} {s : Int} {n : Nat} {t : Tr n} (h : SgW W s n t) (e : ∀ j, 198 + 401 * s ≤ j → j < 198 + 401 * (s + 1) → W' j = W j) : SgW W' s n t :=
  ⟨by rw [e _ (by omega) (by omega)]; exact h.1, h.2.1, LSt.ext _ 0 (by omega) (by have := h.2.1; omega) e h.2.2.1, h.2.2.2.1, h.2.2.2.2⟩
/-- forms, tables, acts of the world are well -/
def WF (W : Int → Int) : Prop := ∀ f, 0 ≤ f → f < W 1 → wF W f
def WT (W : Int → Int) : Prop := ∀ t, 0 ≤ t → t < W 2 → wT (W 0) (tT W t 0) (tT W t 1) (tT W t 2) (tT W t 3)
def WA (W : Int → Int) : Prop := ∀ a, 0 ≤ a → a < W 4 + W 5 → (0 ≤ aA W a 0 ∧ aA W a 0 < W 1) ∧ wT (W 0) (aA W a 1) (aA W a 2) (aA W a 3) (aA W a 4)
theorem WI.mk {W : Int → Int} (h0 : Pp (W 0)) (h1 : 0 ≤ W 1 ∧ W 1 ≤ 16) (h2 : 0 ≤ W 2 ∧ W 2 ≤ 8) (h3 : 0 ≤ W 3 ∧ W 3 ≤ 8) (h4 : 0 ≤ W 4 ∧ 0 ≤ W 5 ∧ W 4 + W 5 ≤ 40) (hf : WF W) (ht : WT W) (ha : WA W) : WI W := ⟨h0, h1, h2, h3, h4, hf, ht, ha⟩
theorem wF.ext {W W' : Int → Int} {f : Int} (h : wF W f) (h0 : 0 ≤ f) (e0 : W' 0 = W 0) (e : ∀ j, 6 + 10 * f ≤ j → j < 16 + 10 * f → W' j = W j) : wF W' f := by
  have ed : fD W' f = fD W f := e _ (by omega) (by omega)
  obtain ⟨h1, h2⟩ := h
  refine ⟨by rw [ed]; exact h1, fun k u v => ?_⟩
  rw [ed] at v
  have ec : fC W' f k = fC W f k := e _ (by omega) (by omega)
  rw [ec, e0]
  exact h2 k u v
theorem tT.ext {W W' : Int → Int} {t i : Int} (e : ∀ j, 166 ≤ j → j < 198 → W' j = W j) (h0 : 0 ≤ t) (h1 : t < 8) (h2 : 0 ≤ i) (h3 : i < 4) : tT W' t i = tT W t i := e _ (by omega) (by omega)
theorem aA.ext {W W' : Int → Int} {a i : Int} (e : ∀ j, 3406 ≤ j → j < 3606 → W' j = W j) (h0 : 0 ≤ a) (h1 : a < 40) (h2 : 0 ≤ i) (h3 : i < 5) : aA W' a i = aA W a i := e _ (by omega) (by omega)
theorem WI.wF_ext {W W' : Int → Int} (h : WI W) (e0 : W' 0 = W 0) (e1 : W' 1 = W 1) (e : ∀ j, 6 ≤ j → j < 166 → W' j = W j) : WF W' := fun f a b => by
  have := h.c1
  exact (h.f a (by omega)).ext a e0 (fun j u v => e j (by omega) (by omega))
theorem WI.wT_ext {W W' : Int → Int} (h : WI W) (e0 : W' 0 = W 0) (e1 : W' 2 = W 2) (e : ∀ j, 166 ≤ j → j < 198 → W' j = W j) : WT W' := fun t a b => by
  have := h.c2
  rw [e0, tT.ext e a (by omega) (by omega) (by omega), tT.ext e a (by omega) (by omega) (by omega), tT.ext e a (by omega) (by omega) (by omega), tT.ext e a (by omega) (by omega) (by omega)]
  exact h.t a (by omega)
theorem WI.wA_ext {W W' : Int → Int} (h : WI W) (e0 : W' 0 = W 0) (e1 : W 1 ≤ W' 1) (e4 : W' 4 + W' 5 ≤ W 4 + W 5) (e : ∀ j, 3406 ≤ j → j < 3606 → W' j = W j) : WA W' := fun t a b => by
  have := h.c4
  obtain ⟨⟨g1, g2⟩, g3⟩ := h.a a (show t < W 4 + W 5 by omega)
  rw [e0, aA.ext e a (by omega) (by omega) (by omega), aA.ext e a (by omega) (by omega) (by omega), aA.ext e a (by omega) (by omega) (by omega), aA.ext e a (by omega) (by omega) (by omega), aA.ext e a (by omega) (by omega) (by omega)]
  exact ⟨⟨g1, by omega⟩, g3⟩
/-- the state's parts -/
def SRc (I : Nat → Int → Int) (S : Nat) (W : Int → Int) : Prop := (I S 4 = W 0 ∧ I S 5 = W 1 ∧ I S 6 = W 2 ∧ I S 7 = W 3) ∧ I S 9 = W 4 ∧ I S 8 = W 4 + W 5
def SRf (I : Nat → Int → Int) (S : Nat) (W : Int → Int) : Prop := ∀ f : Nat, (f : Int) < W 1 → FM I (S + 13 + 2 * f) (W 0) (fD W f) (fC W f)
def SRt (I : Nat → Int → Int) (S : Nat) (W : Int → Int) : Prop := ∀ t : Nat, (t : Int) < W 2 → ∀ i : Int, 0 ≤ i → i < 4 → I (S + 3 + t) i = tT W t i
def SRs (sh : Sh) (I : Nat → Int → Int) (S : Nat) (W : Int → Int) : Prop := ∀ s : Nat, (s : Int) < W 3 → ∃ (t : TT) (a : Nat), sh.2.2.2 (S + 11) s = some a ∧ SgW W s t.1 t.2 ∧ SA sh I t.1 t.2 a ∧ t.1 ≤ 200
/-- the history: what forms held at its places -/
def SRg (sh : Sh) (I : Nat → Int → Int) (S : Nat) (W : Int → Int) (G : Nat → Nat → Int → Int) (k : Nat) : Prop := ∃ i : Nat, i < 40 ∧ sh.2.2.2 (S + 12) k = some (S + 45 + 5 * i) ∧ I (S + 45 + 5 * i) 2 = aA W k 0 ∧
      FM I (S + 45 + 5 * i + 1) (W 0) (fD W (aA W k 0)) (G k (aA W k 0).toNat) ∧ FM I (S + 45 + 5 * i + 3) (W 0) (fD W (aA W k 0)) (G (k + 1) (aA W k 0).toNat) ∧
      (∀ j : Int, 0 ≤ j → j ≤ fD W (aA W k 0) → G (k + 1) (aA W k 0).toNat j % W 0 = mixP (fD W (aA W k 0)).toNat (aA W k 1) (aA W k 2) (aA W k 3) (aA W k 4) (G k (aA W k 0).toNat) j % W 0) ∧
      ∀ f : Nat, f ≠ (aA W k 0).toNat → G (k + 1) f = G k f
def SRh (sh : Sh) (I : Nat → Int → Int) (S : Nat) (W : Int → Int) : Prop := ∃ G : Nat → Nat → Int → Int, (∀ f : Nat, (f : Int) < W 1 → ∀ j : Int, 0 ≤ j → j ≤ fD W f → G (W 4).toNat f j % W 0 = fC W f j % W 0) ∧ ∀ k : Nat, (k : Int) < W 4 + W 5 → SRg sh I S W G k
theorem SR_iff {sh : Sh} {I : Nat → Int → Int} {S : Nat} {W : Int → Int} : SR sh I S W ↔ SRc I S W ∧ SRf I S W ∧ SRt I S W ∧ SRs sh I S W ∧ SRh sh I S W := Iff.rfl
section CWd
variable {sh sh' : Sh} {I I' J : Nat → Int → Int} {x S : Nat} {W W' : Int → Int}
theorem SRf.ext (h : SRf I S W) (hW : WI W) (e0 : W' 0 = W 0) (e1 : W' 1 = W 1) (e : ∀ j, 6 ≤ j → j < 166 → W' j = W j) (hI : ∀ a, S + 13 ≤ a → a ≤ S + 44 → I' a = I a) : SRf I' S W' := fun f hf => by
  have c1 := hW.c1
  have ed : fD W' f = fD W f := e _ (by omega) (by omega)
  have d8 := (hW.f (f := (f : Int)) (by omega) (by omega)).1
  rw [e0, ed]
  exact ((h f (by omega)).eq (hI _ (by omega) (by omega)) (hI _ (by omega) (by omega))).congr (fun k u v => by
    show fC W f k % W 0 = fC W' f k % W 0
    rw [show fC W' f k = fC W f k from e _ (by omega) (by omega)])
theorem SRt.ext (h : SRt I S W) (hW : WI W) (e1 : W' 2 = W 2) (e : ∀ j, 166 ≤ j → j < 198 → W' j = W j) (hI : ∀ a, S + 3 ≤ a → a ≤ S + 10 → I' a = I a) : SRt I' S W' := fun t ht i u v => by
  have c2 := hW.c2
  rw [tT.ext e (by omega) (by omega) u v, hI _ (by omega) (by omega)]
  exact h t (by omega) i u v
theorem SRs.ext (h : SRs sh I S W) (hW : WI W) (e1 : W' 3 = W 3) (e : ∀ j, 198 ≤ j → j < 3406 → W' j = W j) (hR : sh'.2.2.2 (S + 11) = sh.2.2.2 (S + 11)) (hS : ∀ (n : Nat) (t : Tr n) (a : Nat), SA sh I n t a → SA sh' I' n t a) : SRs sh' I' S W' := fun s hs => by
  have c3 := hW.c3
  obtain ⟨t, a, h1, h2, h3, h4⟩ := h s (by omega)
  exact ⟨t, a, by rw [hR]; exact h1, h2.ext (fun j u v => e j (by omega) (by omega)), hS _ _ _ h3, h4⟩
theorem SRg.ext {G : Nat → Nat → Int → Int} {k : Nat} (h : SRg sh I S W G k) (hk : 0 ≤ aA W k 0 ∧ aA W k 0 < 16) (hk40 : k < 40) (e0 : W' 0 = W 0) (ed : ∀ f, 0 ≤ f → f < 16 → fD W' f = fD W f) (ea : ∀ j, 3406 ≤ j → j < 3606 → W' j = W j) (hI : ∀ a, S + 45 ≤ a → a ≤ S + 244 → I' a = I a) (hR : sh'.2.2.2 (S + 12) = sh.2.2.2 (S + 12)) : SRg sh' I' S W' G k := by
  obtain ⟨i, b1, b2, b3, b4, b5, b6, b7⟩ := h
  have a0 := aA.ext (a := (k : Int)) (i := 0) ea (by omega) (by omega) (by omega) (by omega)
  have a1 := aA.ext (a := (k : Int)) (i := 1) ea (by omega) (by omega) (by omega) (by omega)
  have a2 := aA.ext (a := (k : Int)) (i := 2) ea (by omega) (by omega) (by omega) (by omega)
  have a3 := aA.ext (a := (k : Int)) (i := 3) ea (by omega) (by omega) (by omega) (by omega)
  have a4 := aA.ext (a := (k : Int)) (i := 4) ea (by omega) (by omega) (by omega) (by omega)
  refine ⟨i, b1, by rw [hR]; exact b2, ?_, ?_, ?_, ?_, ?_⟩
  · rw [a0, hI _ (by omega) (by omega)]; exact b3
  · rw [a0, e0, ed _ hk.1 hk.2]; exact b4.eq (hI _ (by omega) (by omega)) (hI _ (by omega) (by omega))
  · rw [a0, e0, ed _ hk.1 hk.2]; exact b5.eq (hI _ (by omega) (by omega)) (hI _ (by omega) (by omega))
  · rw [a0, a1, a2, a3, a4, e0, ed _ hk.1 hk.2]; exact b6
  · rw [a0]; exact b7
theorem SRh.ext (h : SRh sh I S W) (hW : WI W) (e0 : W' 0 = W 0) (e1 : W' 1 = W 1) (e4 : W' 4 = W 4) (e5 : W' 5 = W 5) (e : ∀ j, 6 ≤ j → j < 166 → W' j = W j) (ea : ∀ j, 3406 ≤ j → j < 3606 → W' j = W j) (hI : ∀ a, S + 45 ≤ a → a ≤ S + 244 → I' a = I a) (hR : sh'.2.2.2 (S + 12) = sh.2.2.2 (S + 12)) : SRh sh' I' S W' := by
  obtain ⟨G, g1, g2⟩ := h
  have c1 := hW.c1
  have c4 := hW.c4
  have ed : ∀ f, 0 ≤ f → f < 16 → fD W' f = fD W f := fun f u v => e _ (by omega) (by omega)
  refine ⟨G, fun f hf j u v => ?_, fun k hk => ?_⟩
  · have d8 := (hW.f (f := (f : Int)) (by omega) (by omega)).1
    rw [ed f (by omega) (by omega)] at v
    rw [e4, e0, show fC W' f j = fC W f j from e _ (by omega) (by omega)]
    exact g1 f (by omega) j u v
  · have hb := (hW.a (a := (k : Int)) (by omega) (by omega)).1
    exact (g2 k (by omega)).ext (by omega) (by omega) e0 ed ea hI hR
/-- the world's first part alone counts -/
theorem WI.q (h : WI W) (e : ∀ j, 0 ≤ j → j < 3606 → W' j = W j) : WI W' := by
  have e0 := e 0 (by omega) (by omega)
  have e1 := e 1 (by omega) (by omega)
  have e2 := e 2 (by omega) (by omega)
  have e3 := e 3 (by omega) (by omega)
  have e4 := e 4 (by omega) (by omega)
  have e5 := e 5 (by omega) (by omega)
  exact WI.mk (by rw [e0]; exact h.pp) (by rw [e1]; exact h.c1) (by rw [e2]; exact h.c2) (by rw [e3]; exact h.c3) (by rw [e4, e5]; exact h.c4) (h.wF_ext e0 e1 (fun j u v => e j (by omega) (by omega))) (h.wT_ext e0 e2 (fun j u v => e j (by omega) (by omega))) (h.wA_ext e0 (by omega) (by omega) (fun j u v => e j (by omega) (by omega)))
theorem SR.q (h : SR sh I S W) (hW : WI W) (e : ∀ j, 0 ≤ j → j < 3606 → W' j = W j) (hI : ∀ a, S ≤ a → a ≤ S + 244 → I' a = I a) (hR : sh'.2.2.2 (S + 11) = sh.2.2.2 (S + 11) ∧ sh'.2.2.2 (S + 12) = sh.2.2.2 (S + 12)) (hS : ∀ (n : Nat) (t : Tr n) (a : Nat), SA sh I n t a → SA sh' I' n t a) : SR sh' I' S W' := by
  obtain ⟨h1, h2, h3, h4, h5⟩ := SR_iff.mp h
  have e0 := e 0 (by omega) (by omega)
  have e1 := e 1 (by omega) (by omega)
  have e2 := e 2 (by omega) (by omega)
  have e3 := e 3 (by omega) (by omega)
  have e4 := e 4 (by omega) (by omega)
  have e5 := e 5 (by omega) (by omega)
  refine SR_iff.mpr ⟨?_, h2.ext hW e0 e1 (fun j u v => e j (by omega) (by omega)) (fun a u v => hI a (by omega) (by omega)), h3.ext hW e2 (fun j u v => e j (by omega) (by omega)) (fun a u v => hI a (by omega) (by omega)), h4.ext hW e3 (fun j u v => e j (by omega) (by omega)) hR.1 hS, h5.ext hW e0 e1 e4 e5 (fun j u v => e j (by omega) (by omega)) (fun j u v => e j (by omega) (by omega)) (fun a u v => hI a (by omega) (by omega)) hR.2⟩
  unfold SRc at h1 ⊢
  rw [e0, e1, e2, e3, e4, e5, hI S (by omega) (by omega)]
  exact h1
end CWd
