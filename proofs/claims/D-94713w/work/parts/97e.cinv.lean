/-! the two together: what holds from call to call -/
set_option maxRecDepth 100000
section CIv
variable {sh sh' sh1 : Sh} {I I' I1 I2 J J' : Nat → Int → Int} {x c : Nat} {W V B : Int → Int} {kp n fa : Int}
theorem TL.ext {m : Nat} (T : TL sh m) (hT : ∀ a, m ≤ a → a ≤ m + 15 → sh'.2.1 a = sh.2.1 a ∧ sh'.2.2.1 a = sh.2.2.1 a) (hr : sh'.2.2.2 m = sh.2.2.2 m) : TL sh' m := by
  obtain ⟨a0, ⟨u0, v0⟩, ⟨u1, v1⟩, ⟨u2, v2⟩, ⟨u3, v3⟩, ⟨u4, v4⟩, ⟨u5, v5⟩, ⟨u6, v6⟩, ⟨u7, v7⟩, ⟨u8, v8⟩, ⟨u9, v9⟩, ⟨u10, v10⟩, ⟨u11, v11⟩, ⟨u12, v12⟩, ⟨u13, v13⟩, ⟨u14, v14⟩⟩ := T
  exact ⟨(hT m (Nat.le_refl _) (by omega)).1.trans a0, ⟨by rw [hr]; exact u0, v0.ext (hT _ (by omega) (by omega))⟩, ⟨by rw [hr]; exact u1, v1.ext (hT _ (by omega) (by omega))⟩, ⟨by rw [hr]; exact u2, v2.ext (hT _ (by omega) (by omega))⟩, ⟨by rw [hr]; exact u3, v3.ext (hT _ (by omega) (by omega))⟩, ⟨by rw [hr]; exact u4, v4.ext (hT _ (by omega) (by omega))⟩, ⟨by rw [hr]; exact u5, v5.ext (hT _ (by omega) (by omega))⟩, ⟨by rw [hr]; exact u6, v6.ext (hT _ (by omega) (by omega))⟩, ⟨by rw [hr]; exact u7, v7.ext (hT _ (by omega) (by omega))⟩, ⟨by rw [hr]; exact u8, v8.ext (hT _ (by omega) (by omega))⟩, ⟨by rw [hr]; exact u9, v9.ext (hT _ (by omega) (by omega))⟩, ⟨by rw [hr]; exact u10, v10.ext (hT _ (by omega) (by omega))⟩, ⟨by rw [hr]; exact u11, v11.ext (hT _ (by omega) (by omega))⟩, ⟨by rw [hr]; exact u12, v12.ext (hT _ (by omega) (by omega))⟩, ⟨by rw [hr]; exact u13, v13.ext (hT _ (by omega) (by omega))⟩, ⟨by rw [hr]; exact u14, v14.ext (hT _ (by omega) (by omega))⟩⟩
/-- where all lies -/
def LAY (sh : Sh) (x : Nat) : Prop := (CL sh x ∧ TL sh (x + 678) ∧ AR sh (x + 694) 103 1) ∧ (x + 694 < sh.1.1 ∧ BD sh) ∧ (∀ b, x ≤ b → b ≤ x + 694 → sh.2.1 b ≠ 10 ∧ sh.2.1 b ≠ 12) ∧ SGA sh (x + 16) ∧ SGA sh (x + 261)
/-- what the component holds: a world W, an image V if one is kept, n signs of B, the fault's place -/
def CR (sh : Sh) (I : Nat → Int → Int) (x : Nat) (W V B : Int → Int) (kp n fa : Int) : Prop := SR sh I (x + 16) W ∧ I (x + 5 + 1) 0 = W 0 ∧ I x 18 = kp ∧ (kp = 1 → SR sh I (x + 261) V) ∧ I (x + 1) 3 = n ∧ (∀ j : Int, 0 ≤ j → j < 400 → I (x + 1 + 1) j = B j) ∧ I x 16 = fa
def OKW (W V B : Int → Int) (kp n : Int) : Prop := WI W ∧ (kp = 0 ∨ kp = 1) ∧ (kp = 1 → WI V) ∧ (0 ≤ n ∧ n ≤ 400) ∧ okB B
def RM (sh : Sh) (c : Nat) : Prop := 1000 * c ≤ sh.1.2.1 ∧ 10000 * c ≤ sh.1.2.2
/-- all that holds, with room for c calls -/
def IV (sh : Sh) (I : Nat → Int → Int) (x c : Nat) : Prop := LAY sh x ∧ CR sh I x (I (x + 678 + 1)) (I (x + 678 + 2)) (I (x + 678 + 5)) (I (x + 678) 3) (I (x + 678) 11) (I (x + 678) 17) ∧ OKW (I (x + 678 + 1)) (I (x + 678 + 2)) (I (x + 678 + 5)) (I (x + 678) 3) (I (x + 678) 11) ∧ RM sh c
/-- a shape where all stays, but for the rows' order: k cells more, s slots -/
def SF (x : Nat) (sh sh' : Sh) (k s : Nat) : Prop := (sh.1.1 ≤ sh'.1.1 ∧ BD sh') ∧ (∀ b, b < sh.1.1 → sh'.2.1 b = sh.2.1 b ∧ sh'.2.2.1 b = sh.2.2.1 b) ∧ (∀ b, b < sh.1.1 → b ≠ x + 515 → sh'.2.2.2 b = sh.2.2.2 b) ∧ (∃ π, RP2 sh' x π) ∧ sh.1.2.1 ≤ sh'.1.2.1 + k ∧ sh.1.2.2 ≤ sh'.1.2.2 + s
theorem SF.refl (L : LAY sh x) : SF x sh sh 0 0 := ⟨⟨Nat.le_refl _, L.2.1.2⟩, fun _ _ => ⟨rfl, rfl⟩, fun _ _ _ => rfl, L.1.1.rp, Nat.le_refl _, Nat.le_refl _⟩
theorem SF.trans {k s k2 s2 : Nat} (h : SF x sh sh1 k s) (g : SF x sh1 sh' k2 s2) : SF x sh sh' (k + k2) (s + s2) := by
  obtain ⟨⟨a1, a2⟩, a3, a4, a5, a6, a7⟩ := h
  obtain ⟨⟨b1, b2⟩, b3, b4, b5, b6, b7⟩ := g
  exact ⟨⟨by omega, b2⟩, fun b hb => ⟨(b3 b (by omega)).1.trans (a3 b hb).1, (b3 b (by omega)).2.trans (a3 b hb).2⟩, fun b hb hn => (b4 b (by omega) hn).trans (a4 b hb hn), b5, by omega, by omega⟩
theorem SF.new (hb : x + 694 < sh.1.1) (hB : BD sh) (hR : ∃ π, RP2 sh x π) {t : Nat} {l : Int} {N : Nat} : SF x sh (shNw sh t l N) 1 N := by
  obtain ⟨π, hp⟩ := hR
  refine ⟨⟨Nat.le_succ _, fun a ha => ?_⟩, fun b hb9 => ⟨up1_n _ _ (by omega), up1_n _ _ (by omega)⟩, fun b hb9 _ => up1_n _ _ (by omega), ⟨π, hp.eq (up1_n _ _ (by omega))⟩, ?_, ?_⟩
  · have ha : sh.1.1 + 1 ≤ a := ha
    exact (up1_n _ _ (by omega)).trans (hB a (by omega))
  · show sh.1.2.1 ≤ sh.1.2.1 - 1 + 1
    omega
  · show sh.1.2.2 ≤ sh.1.2.2 - N + N
    omega
theorem LAY.sf {k s : Nat} (L : LAY sh x) (h : SF x sh sh' k s) : LAY sh' x := by
  obtain ⟨⟨a1, a2⟩, a3, a4, a5, -, -⟩ := h
  obtain ⟨⟨L1, L2, L3⟩, ⟨L4, L5⟩, L6, L7, L8⟩ := L
  obtain ⟨π1, p1⟩ := L1.st.ap
  obtain ⟨π2, p2⟩ := L1.im.ap
  have sg : ∀ S, S + 11 < sh.1.1 → S + 11 ≠ x + 515 → SGA sh S → SGA sh' S := by
    intro S h1 h2 h i hi
    have g := h i hi
    rw [a4 _ h1 h2]
    cases e : sh.2.2.2 (S + 11) (i : Int) with
    | none => rfl
    | some a =>
      rw [e] at g
      have g : isSg (sh.2.1 a) = true := g
      show isSg (sh'.2.1 a) = true
      rw [(a3 a (BD.lt L5 (fun e9 => by rw [e9] at g; exact absurd g (by decide)))).1]
      exact g
  exact ⟨⟨L1.ext (fun a _ _ => a3 a (by omega)) (fun a _ _ g _ _ _ _ => a4 a (by omega) g) a5 ⟨π1, p1.eq (a4 _ (by omega) (by omega))⟩ ⟨π2, p2.eq (a4 _ (by omega) (by omega))⟩, L2.ext (fun a _ _ => a3 a (by omega)) (a4 _ (by omega) (by omega)), L3.ext (a3 _ (by omega))⟩, ⟨by omega, a2⟩, fun b h1 h2 => by rw [(a3 b (by omega)).1]; exact L6 b h1 h2, sg _ (by omega) (by omega) L7, sg _ (by omega) (by omega) L8⟩
theorem SA.sf {k s : Nat} (L : LAY sh x) (h : SF x sh sh' k s) (hI : ∀ b, b < sh.1.1 → (b < x ∨ x + 694 < b) → I' b = I b) {m : Nat} {t : Tr m} {q : Nat} (g : SA sh I m t q) : SA sh' I' m t q := by
  obtain ⟨⟨a1, a2⟩, a3, a4, a5, -, -⟩ := h
  obtain ⟨⟨L1, L2, L3⟩, ⟨L4, L5⟩, L6, L7, L8⟩ := L
  have t5 := L1.rw.2.1.1
  have low : ∀ b, sh.2.1 b = 2 ∨ sh.2.1 b = 10 ∨ sh.2.1 b = 11 ∨ sh.2.1 b = 12 ∨ sh.2.1 b = 13 ∨ sh.2.1 b = 14 → b < sh.1.1 := fun b hb => BD.lt L5 (by omega)
  refine SA.ext (sh := sh) (sh' := sh') (fun b hb => ⟨(a3 b (low b hb)).1, a4 b (low b hb) (fun e => by rw [e] at hb; omega)⟩) _ _ _ (SA.keep (fun b hb => hI b (low b (by omega)) ?_) _ _ _ g)
  by_cases h1 : x ≤ b ∧ b ≤ x + 694
  · have := L6 b h1.1 h1.2
    omega
  · omega
/-- what the component holds, held -/
theorem CR.gen {k s : Nat} {n' fa' : Int} (L : LAY sh x) (hW : WI W) (hV : kp = 1 → WI V) (h : CR sh I x W V B kp n fa) (f : SF x sh sh' k s) (hI : ∀ b, b < sh.1.1 → ¬ xS x b → (b < x + 678 ∨ x + 694 < b) → b ≠ x → b ≠ x + 1 → b ≠ x + 4 → I' b = I b) (h3 : I' (x + 1) 3 = n') (h16 : I' x 16 = fa') (h18 : I' x 18 = I x 18) : CR sh' I' x W V B kp n' fa' := by
  obtain ⟨c1, c2, c3, c4, c5, c6, c7⟩ := h
  have sa : ∀ (m : Nat) (t : Tr m) (q : Nat), SA sh I m t q → SA sh' I' m t q := fun m t q g => SA.sf L f (fun b hb hh => hI b hb (fun e => by unfold xS at e; omega) (by omega) (by omega) (by omega) (by omega)) g
  have L4 := L.2.1.1
  have rf := f.2.2.1
  refine ⟨c1.q hW (fun _ _ _ => rfl) (fun a h1 h2 => hI a (by omega) (fun e => by unfold xS at e; omega) (by omega) (by omega) (by omega) (by omega)) ⟨rf _ (by omega) (by omega), rf _ (by omega) (by omega)⟩ sa, ?_, by rw [h18]; exact c3, fun hk => (c4 hk).q (hV hk) (fun _ _ _ => rfl) (fun a h1 h2 => hI a (by omega) (fun e => by unfold xS at e; omega) (by omega) (by omega) (by omega) (by omega)) ⟨rf _ (by omega) (by omega), rf _ (by omega) (by omega)⟩ sa, h3, fun j u v => ?_, h16⟩
  · rw [hI (x + 5 + 1) (by omega) (fun e => by unfold xS at e; omega) (by omega) (by omega) (by omega) (by omega)]
    exact c2
  · rw [hI (x + 1 + 1) (by omega) (fun e => by unfold xS at e; omega) (by omega) (by omega) (by omega) (by omega)]
    exact c6 j u v
/-- the twin leaves the component alone -/
theorem CR.tw (L : LAY sh x) (hW : WI W) (hV : kp = 1 → WI V) (h : CR sh I x W V B kp n fa) (hI : ∀ b, b < x + 678 ∨ x + 693 < b → I' b = I b) : CR sh I' x W V B kp n fa :=
  h.gen L hW hV (SF.refl L) (fun b _ _ g _ _ _ => hI b (by omega)) (by rw [hI _ (by omega)]; exact h.2.2.2.2.1) (by rw [hI _ (by omega)]; exact h.2.2.2.2.2.2) (by rw [hI _ (by omega)])
theorem IV.of (L : LAY sh x) (h : CR sh I x W V B kp n fa) (hO : OKW W V B kp n) (hR : RM sh c) (hI : ∀ b, b < x + 678 ∨ x + 693 < b → I' b = I b) (e1 : I' (x + 678 + 1) = W) (e2 : I' (x + 678 + 2) = V) (e5 : I' (x + 678 + 5) = B) (e3 : I' (x + 678) 3 = kp) (e11 : I' (x + 678) 11 = n) (e17 : I' (x + 678) 17 = fa) : IV sh I' x c := by
  unfold IV
  rw [e1, e2, e5, e3, e11, e17]
  exact ⟨L, h.tw L hO.1 hO.2.2.1 hI, hO, hR⟩
/-- half way: the component is through, the twin not yet -/
def HF (sh : Sh) (I : Nat → Int → Int) (x c : Nat) (sh1 : Sh) (I1 : Nat → Int → Int) : Prop := LAY sh1 x ∧ CR sh1 I1 x (I (x + 678 + 1)) (I (x + 678 + 2)) (I (x + 678 + 5)) (I (x + 678) 3) (I (x + 678) 11) (I (x + 678) 17) ∧ (∀ a, x + 678 ≤ a → a ≤ x + 693 → I1 a = I a) ∧ RM sh1 c
theorem IV.hf {k s : Nat} (h : IV sh I x (c + 1)) (f : SF x sh sh1 k s) (hk : k ≤ 1000) (hs : s ≤ 10000) (hI : ∀ b, b < sh.1.1 → ¬ xS x b → b ≠ x → b ≠ x + 4 → I1 b = I b) (h16 : I1 x 16 = I x 16) (h18 : I1 x 18 = I x 18) : HF sh I x c sh1 I1 := by
  obtain ⟨L, C, O, R1, R2⟩ := h
  have L4 := L.2.1.1
  obtain ⟨-, -, -, -, f1, f2⟩ := id f
  refine ⟨L.sf f, C.gen L O.1 O.2.2.1 f (fun b u v _ w _ z => hI b u v w z) ?_ ?_ h18, fun a u v => hI a (by omega) (fun e => by unfold xS at e; omega) (by omega) (by omega), ?_, ?_⟩
  · rw [hI _ (by omega) (fun e => by unfold xS at e; omega) (by omega) (by omega)]
    exact C.2.2.2.2.1
  · rw [h16]
    exact C.2.2.2.2.2.2
  · omega
  · omega
theorem HF.q (h : HF sh I x c sh1 I1) (hO : OKW (I (x + 678 + 1)) (I (x + 678 + 2)) (I (x + 678 + 5)) (I (x + 678) 3) (I (x + 678) 11)) {cd : Int} (g : HK (x + 678) (thr I1 (x + 678) cd) I2) : IV sh1 I2 x c ∧ I2 (x + 678) 0 = cd := by
  obtain ⟨L, C, E, R⟩ := h
  have tn : ∀ a, a ≠ x + 678 → (a < x + 678 + 3 ∨ x + 678 + 15 < a ∨ a = x + 678 + 5) → I2 a = I1 a := fun a u v => by rw [g.1 a u v, thr_n u]
  have tm : ∀ k : Int, k = 3 ∨ k = 11 ∨ k = 17 → I2 (x + 678) k = I (x + 678) k := fun k hk => by rw [g.2 k (by omega), thr_k (by omega), E _ (by omega) (by omega)]
  refine ⟨IV.of L C hO R (fun b hb => tn b (by omega) (by omega)) (by rw [tn _ (by omega) (by omega), E _ (by omega) (by omega)]) (by rw [tn _ (by omega) (by omega), E _ (by omega) (by omega)]) (by rw [tn _ (by omega) (by omega), E _ (by omega) (by omega)]) (tm 3 (by omega)) (tm 11 (by omega)) (tm 17 (by omega)), ?_⟩
  rw [g.2 0 (by omega), thr_0]
/-- a question, answered or refused alike -/
def OCQ (x c : Nat) (yx : Option (Ex ⊕ (Int × Me))) (yt : Me → Option (Int × Me)) (k1 k2 : Nat) : Prop :=
  (∃ (r : Int) (sh1 : Sh) (I1 J1 : Nat → Int → Int), yx = some (.inr (r, (sh1, I1, J1))) ∧ AR sh1 (x + 694) 103 1 ∧ ∀ J2 : Nat → Int → Int, ∃ I2 J3, yt (sh1, I1, J2) = some (r, (sh1, I2, J3)) ∧ J3 (x + 694) = J2 (x + 694) ∧ I2 (x + 678) 0 = 0 ∧ IV sh1 I2 x c) ∨
  (∃ (k : Nat) (cd : Int) (a : Nat) (sh1 : Sh) (I1 J1 : Nat → Int → Int), yx = some (.inl (k, a, (sh1, I1, J1))) ∧ ((k = k1 ∧ cd = 1) ∨ (k = k2 ∧ k2 ≠ 100 ∧ cd = 2)) ∧ ∃ (r : Int) (I2 J2 : Nat → Int → Int), yt (sh1, I1, J1) = some (r, (sh1, I2, J2)) ∧ I2 (x + 678) 0 = cd ∧ IV sh1 I2 x c)
theorem OCQ.hf {yx : Option (Ex ⊕ (Int × Me))} {yt : Me → Option (Int × Me)} {k1 k2 : Nat} {r : Int} (V : IV sh I x (c + 1)) (hx : yx = some (.inr (r, (sh1, I1, J')))) (h : HF sh I x c sh1 I1) (hq : ∀ (J2 : Nat → Int → Int), QG (yt (sh1, I1, J2)) sh1 I1 J2 (x + 678) r) : OCQ x c yx yt k1 k2 := by
  refine Or.inl ⟨r, sh1, I1, J', hx, h.1.1.2.2, fun J2 => ?_⟩
  obtain ⟨I2, J3, e1, e2, e3⟩ := hq J2
  obtain ⟨g1, g2⟩ := h.q V.2.2.1 e2
  exact ⟨I2, J3, e1, e3 _ (by omega), g2, g1⟩
theorem OCQ.g {yx : Option (Ex ⊕ (Int × Me))} {yt : Me → Option (Int × Me)} {k1 k2 : Nat} {r : Int} (V : IV sh I x (c + 1)) (hx : CG yx sh I J x r) (hq : ∀ (sh1 : Sh) (I1 J2 : Nat → Int → Int), sh1 = sh → TL sh1 (x + 678) → (∀ a, x + 678 ≤ a → a ≤ x + 693 → I1 a = I a) → QG (yt (sh1, I1, J2)) sh1 I1 J2 (x + 678) r) : OCQ x c yx yt k1 k2 := by
  obtain ⟨I1, e, f⟩ := hx
  have h := V.hf (I1 := I1) (SF.refl V.1) (by omega) (by omega) (fun b _ u _ _ => f b u) (by rw [f _ (fun e => by unfold xS at e; omega)]) (by rw [f _ (fun e => by unfold xS at e; omega)])
  exact OCQ.hf V e h (fun J2 => hq sh I1 J2 rfl h.1.1.2.1 h.2.2.1)
theorem OCQ.j {yx : Option (Ex ⊕ (Int × Me))} {yt : Me → Option (Int × Me)} {k1 k2 : Nat} {r : Int} (V : IV sh I x (c + 1)) (hx : CJ yx sh I J x r) (hq : ∀ (sh1 : Sh) (I1 J2 : Nat → Int → Int), TL sh1 (x + 678) → (∀ a, x + 678 ≤ a → a ≤ x + 693 → I1 a = I a) → QG (yt (sh1, I1, J2)) sh1 I1 J2 (x + 678) r) : OCQ x c yx yt k1 k2 := by
  obtain ⟨I1, J1, e, f, -⟩ := hx
  have h := V.hf (I1 := I1) (SF.refl V.1) (by omega) (by omega) (fun b _ _ u _ => f.1 b u) (f.2 16 (by decide)) (f.2 18 (by decide))
  exact OCQ.hf V e h (fun J2 => hq sh I1 J2 h.1.1.2.1 h.2.2.1)
theorem OCQ.gx {yx : Option (Ex ⊕ (Int × Me))} {yt : Me → Option (Int × Me)} {k1 k2 : Nat} {r : Int} (V : IV sh I x (c + 1)) (hx : CGX yx sh I J x r) (hq : ∀ (sh1 : Sh) (I1 J2 : Nat → Int → Int), TL sh1 (x + 678) → (∀ a, x + 678 ≤ a → a ≤ x + 693 → I1 a = I a) → QG (yt (sh1, I1, J2)) sh1 I1 J2 (x + 678) r) : OCQ x c yx yt k1 k2 := by
  obtain ⟨sh1, I1, e, g, hp, f⟩ := hx
  obtain ⟨g1, g2, g3, g4⟩ := g
  have sf : SF x sh sh1 0 0 := by
    refine ⟨⟨by rw [g1]; exact Nat.le_refl _, ?_⟩, fun b _ => by rw [g2, g3]; exact ⟨rfl, rfl⟩, fun b _ hn => g4 b hn, hp, by rw [g1]; omega, by rw [g1]; omega⟩
    unfold BD
    rw [g1, g2]
    exact V.1.2.1.2
  have h := V.hf (I1 := I1) sf (by omega) (by omega) (fun b _ u _ _ => f b u) (by rw [f _ (fun e => by unfold xS at e; omega)]) (by rw [f _ (fun e => by unfold xS at e; omega)])
  exact OCQ.hf V e h (fun J2 => hq sh1 I1 J2 h.1.1.2.1 h.2.2.1)
theorem OCQ.r {yx : Option (Ex ⊕ (Int × Me))} {yt : Me → Option (Int × Me)} {k1 k2 k a : Nat} {cd : Int} (V : IV sh I x (c + 1)) (hx : yx = some (.inl (k, a, (sh1, I1, J')))) (h : HF sh I x c sh1 I1) (hk : (k = k1 ∧ cd = 1) ∨ (k = k2 ∧ k2 ≠ 100 ∧ cd = 2)) (hq : QB (yt (sh1, I1, J')) sh1 I1 J' (x + 678) cd) : OCQ x c yx yt k1 k2 := by
  obtain ⟨r, I2, J2, e1, e2, -⟩ := hq
  obtain ⟨g1, g2⟩ := h.q V.2.2.1 e2
  exact Or.inr ⟨k, cd, a, sh1, I1, J', hx, hk, r, I2, J2, e1, g2, g1⟩
theorem SF.ex (L : LAY sh x) : SF x sh (exS sh) 1 6 := SF.new (t := 99) (l := 0) (N := 6) L.2.1.1 L.2.1.2 L.1.1.rp
theorem OCQ.b {yx : Option (Ex ⊕ (Int × Me))} {yt : Me → Option (Int × Me)} {k1 k2 k : Nat} {cd : Int} (V : IV sh I x (c + 1)) (hx : CB yx sh I J k) (hk : (k = k1 ∧ cd = 1) ∨ (k = k2 ∧ k2 ≠ 100 ∧ cd = 2)) (hq : ∀ (sh1 : Sh) (I1 J2 : Nat → Int → Int), TL sh1 (x + 678) → (∀ a, x + 678 ≤ a → a ≤ x + 693 → I1 a = I a) → QB (yt (sh1, I1, J2)) sh1 I1 J2 (x + 678) cd) : OCQ x c yx yt k1 k2 := by
  have L4 := V.1.2.1.1
  have o : ∀ b, b < sh.1.1 → exI sh I b = I b := fun b hb => up1_n _ _ (by omega)
  have h := V.hf (I1 := exI sh I) (SF.ex V.1) (by omega) (by omega) (fun b u _ _ _ => o b u) (by rw [o _ (by omega)]) (by rw [o _ (by omega)])
  exact OCQ.r V hx h hk (hq _ _ _ h.1.1.2.1 h.2.2.1)
-- what a case needs of it
theorem IV.L (V : IV sh I x c) : CL sh x := V.1.1.1
theorem IV.T (V : IV sh I x c) : TL sh (x + 678) := V.1.1.2.1
theorem IV.R (V : IV sh I x (c + 1)) : Room sh := ⟨by have := V.2.2.2.1; omega, by have := V.2.2.2.2; omega⟩
theorem IV.S (V : IV sh I x c) : SR sh I (x + 16) (I (x + 678 + 1)) := V.2.1.1
theorem IV.P (V : IV sh I x c) : I (x + 5 + 1) 0 = I (x + 678 + 1) 0 := V.2.1.2.1
theorem IV.Wd (V : IV sh I x c) : WI (I (x + 678 + 1)) := V.2.2.1.1
end CIv
