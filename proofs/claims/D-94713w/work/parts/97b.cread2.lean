/-! the component: the reader's trees -/
set_option maxRecDepth 100000
/-- what reading leaves of all that was there: k cells more -/
def XR (x : Nat) (sh : Sh) (I J : Nat → Int → Int) (sh' : Sh) (I' J' : Nat → Int → Int) (k : Nat) : Prop :=
  (sh'.1.1 = sh.1.1 + k ∧ sh'.1.2.1 + k = sh.1.2.1 ∧ sh.1.2.2 ≤ sh'.1.2.2 + 3 * k) ∧ (∀ b, b < sh.1.1 → sh'.2.1 b = sh.2.1 b ∧ sh'.2.2.1 b = sh.2.2.1 b ∧ sh'.2.2.2 b = sh.2.2.2 b) ∧
  ((∀ b, b < sh.1.1 → b ≠ x + 1 → b ≠ x + 4 → I' b = I b) ∧ ∀ q : Int, q ≠ 5 → q ≠ 6 → q ≠ 7 → I' (x + 1) q = I (x + 1) q) ∧ (∀ b, b < sh.1.1 → J' b = J b) ∧ BD sh'
def shR (sh : Sh) (q : Nat) (g : Int → Option Nat) : Sh := (sh.1, sh.2.1, sh.2.2.1, up1 sh.2.2.2 q g)
section CR2
variable {sh sh1 sh2 sh' : Sh} {I I1 I2 I' J J1 J2 J' : Nat → Int → Int} {x : Nat} {B : Int → Int} {n a deep it : Int}
theorem XR.fr (hBD : BD sh) (h : FRc x I I') : XR x sh I J sh I' J 0 := ⟨⟨rfl, rfl, by omega⟩, fun _ _ => ⟨rfl, rfl, rfl⟩, ⟨fun b _ u v => h.1 b u v, fun q u v w => h.2 q u v w⟩, fun _ _ => rfl, hBD⟩
theorem XR.trans {k l : Nat} (h : XR x sh I J sh1 I1 J1 k) (g : XR x sh1 I1 J1 sh2 I2 J2 l) : XR x sh I J sh2 I2 J2 (k + l) := by
  obtain ⟨⟨a1, a2, a3⟩, a4, ⟨a5, a6⟩, a7, a8⟩ := h
  obtain ⟨⟨b1, b2, b3⟩, b4, ⟨b5, b6⟩, b7, b8⟩ := g
  refine ⟨⟨by omega, by omega, by omega⟩, fun b hb => ?_, ⟨fun b hb u v => (b5 b (by omega) u v).trans (a5 b hb u v), fun q u v w => (b6 q u v w).trans (a6 q u v w)⟩, fun b hb => (b7 b (by omega)).trans (a7 b hb), b8⟩
  obtain ⟨c1, c2, c3⟩ := a4 b hb
  obtain ⟨d1, d2, d3⟩ := b4 b (by omega)
  exact ⟨d1.trans c1, d2.trans c2, d3.trans c3⟩
theorem XR.cl {k : Nat} (L : CL sh x) (hb : x + 694 < sh.1.1) (h : XR x sh I J sh' I' J' k) : CL sh' x := by
  obtain ⟨-, h4, -⟩ := h
  obtain ⟨π0, p0⟩ := L.rp
  obtain ⟨π1, p1⟩ := L.st.ap
  obtain ⟨π2, p2⟩ := L.im.ap
  exact L.ext (fun a _ _ => ⟨(h4 a (by omega)).1, (h4 a (by omega)).2.1⟩) (fun a _ _ _ _ _ _ _ => (h4 a (by omega)).2.2) ⟨π0, p0.eq (h4 _ (by omega)).2.2⟩ ⟨π1, p1.eq (h4 _ (by omega)).2.2⟩ ⟨π2, p2.eq (h4 _ (by omega)).2.2⟩
theorem BD.lt (hBD : BD sh) {a : Nat} (h : sh.2.1 a ≠ 99) : a < sh.1.1 := by
  by_cases c : a < sh.1.1
  · exact c
  · exact absurd (hBD a (by omega)) h
theorem XR.sa {k : Nat} (L : CL sh x) (hBD : BD sh) (h : XR x sh I J sh' I' J' k) {m : Nat} {t : Tr m} {q : Nat} (g : SA sh I m t q) : SA sh' I' m t q := by
  obtain ⟨-, h4, ⟨h5, -⟩, -⟩ := h
  have t1 := L.rl.1
  have t4 := r_wt L
  refine SA.ext (sh := sh) (sh' := sh') (fun b hb => ?_) m t q (SA.keep (fun b hb => h5 b (hBD.lt (by omega)) (fun e => by rw [e] at hb; omega) (fun e => by rw [e] at hb; omega)) m t q g)
  have := h4 b (hBD.lt (by omega))
  exact ⟨this.1, this.2.2⟩
theorem XR.new (hBD : BD sh) (hb : x + 694 < sh.1.1) {c N : Nat} (h1 : 1 ≤ sh.1.2.1) (h2 : N ≤ sh.1.2.2) (h3 : N ≤ 3) : XR x sh I J (shNw sh c 0 N) (up1 I sh.1.1 (fun _ => 0)) (up1 J sh.1.1 (fun _ => 0)) 1 := by
  refine ⟨⟨rfl, ?_, ?_⟩, fun b hb2 => ⟨up1_n _ _ (by omega), up1_n _ _ (by omega), up1_n _ _ (by omega)⟩, ⟨fun b hb2 _ _ => up1_n _ _ (by omega), fun q _ _ _ => by rw [up1_n _ _ (by omega)]⟩, fun b hb2 => up1_n _ _ (by omega), fun b hb2 => ?_⟩
  · show sh.1.2.1 - 1 + 1 = sh.1.2.1
    omega
  · show sh.1.2.2 ≤ sh.1.2.2 - N + 3 * 1
    omega
  · have : sh.1.1 + 1 ≤ b := hb2
    show up1 sh.2.1 sh.1.1 c b = 99
    rw [up1_n _ _ (by omega)]
    exact hBD b (by omega)
/-- a new cell is filled -/
theorem XR.fill {k q : Nat} {g : Int → Option Nat} (h : XR x sh I J sh' I' J' k) (hq : sh.1.1 ≤ q) : XR x sh I J (shR sh' q g) I' J' k := by
  obtain ⟨h1, h2, h3, h4, h5⟩ := h
  refine ⟨h1, fun b hb => ?_, h3, h4, h5⟩
  obtain ⟨c1, c2, c3⟩ := h2 b hb
  exact ⟨c1, c2, (up1_n _ _ (by omega)).trans c3⟩
theorem XR.fillI {k q : Nat} {g : Int → Int} (h : XR x sh I J sh' I' J' k) (hq : sh.1.1 ≤ q) (hx : x + 694 < sh.1.1) : XR x sh I J sh' (up1 I' q g) J' k := by
  obtain ⟨h1, h2, ⟨h3, h6⟩, h4, h5⟩ := h
  exact ⟨h1, h2, ⟨fun b hb u v => (up1_n _ _ (by omega)).trans (h3 b hb u v), fun z u v w => by rw [up1_n _ _ (by omega)]; exact h6 z u v w⟩, h4, h5⟩
theorem SA.ref {q : Nat} (hq : sh.2.2.2 q = fun _ => none) (ht : 11 ≤ sh.2.1 q ∧ sh.2.1 q ≤ 14) {g : Int → Option Nat} (hI : ∀ b, b ≠ q → I' b = I b) : ∀ (m : Nat) (t : Tr m) (a : Nat), SA sh I m t a → SA (shR sh q g) I' m t a
  | 0, t, _, _ => Empty.elim t
  | _ + 1, .inl _, a, h => h
  | _ + 1, .inr (.inl v), a, ⟨h1, h2⟩ => ⟨h1, by rw [hI a (fun e => by rw [e] at h1; omega)]; exact h2⟩
  | m + 1, .inr (.inr (.inl t)), a, ⟨h1, b, h2, h3⟩ => by
    have ne : a ≠ q := fun e => by rw [e, hq] at h2; cases h2
    exact ⟨h1, b, (congrFun (up1_n _ _ ne) _).trans h2, SA.ref hq ht hI m t b h3⟩
  | m + 1, .inr (.inr (.inr (o, t1, t2))), a, ⟨⟨h1, h2⟩, b, c, ⟨h3, h4⟩, h5, h6⟩ => by
    have ne : a ≠ q := fun e => by rw [e, hq] at h3; cases h3
    exact ⟨⟨h1, fun e => by rw [hI a ne]; exact h2 e⟩, b, c, ⟨(congrFun (up1_n _ _ ne) _).trans h3, (congrFun (up1_n _ _ ne) _).trans h4⟩, SA.ref hq ht hI m t1 b h5, SA.ref hq ht hI m t2 c h6⟩
theorem SA_up : ∀ (m : Nat) (t : Tr m) (a : Nat), SA sh I (m + 1) (Tr.up m t) a ↔ SA sh I m t a
  | 0, t, _ => Empty.elim t
  | _ + 1, .inl _, a => Iff.rfl
  | _ + 1, .inr (.inl v), a => Iff.rfl
  | m + 1, .inr (.inr (.inl t)), a => ⟨fun ⟨h1, b, h2, h3⟩ => ⟨h1, b, h2, (SA_up m t b).mp h3⟩, fun ⟨h1, b, h2, h3⟩ => ⟨h1, b, h2, (SA_up m t b).mpr h3⟩⟩
  | m + 1, .inr (.inr (.inr (o, t1, t2))), a => ⟨fun ⟨h1, b, c, h2, h3, h4⟩ => ⟨h1, b, c, h2, (SA_up m t1 b).mp h3, (SA_up m t2 c).mp h4⟩, fun ⟨h1, b, c, h2, h3, h4⟩ => ⟨h1, b, c, h2, (SA_up m t1 b).mpr h3, (SA_up m t2 c).mpr h4⟩⟩
theorem SA_to (m l : Nat) (t : Tr l) (h : l ≤ m) (a : Nat) : SA sh I m (Tr.to m l t h) a = SA sh I l t a := Tr.to_f (fun l t => SA sh I l t a) (fun l t => propext (SA_up l t a)) m l t h
/-- what is there ahead of reading from a place on -/
def PRE (sh : Sh) (I : Nat → Int → Int) (x : Nat) (B : Int → Int) (n a deep it : Int) : Prop := (CL sh x ∧ x + 694 < sh.1.1 ∧ BD sh) ∧ RC I x B n a deep it ∧ (n - a).toNat + 1 ≤ sh.1.2.1 ∧ 3 * (n - a).toNat + 6 ≤ sh.1.2.2
theorem PRE.step {k : Nat} {a' deep' it' : Int} (P : PRE sh I x B n a deep it) (h : XR x sh I J sh' I' J' k) (hk : (k : Int) ≤ a' - a) (ha : a' ≤ n) (hr : RC I' x B n a' deep' it') : PRE sh' I' x B n a' deep' it' := by
  obtain ⟨⟨p1, p2, p3⟩, -, p4, p5⟩ := P
  obtain ⟨⟨b1, b2, b3⟩, -, -, -, b8⟩ := id h
  exact ⟨⟨h.cl p1 p2, by omega, b8⟩, hr, by omega, by omega⟩
/-- what reading gives -/
def RdP (y : Option (Ex ⊕ (Nat × Me))) (sh : Sh) (I J : Nat → Int → Int) (x : Nat) (B : Int → Int) (n a0 deep : Int) : PR → Prop
  | .inl pl => ∃ sh' I' J' k, y = some (.inl (5, x + 4, (sh', I', J'))) ∧ I' (x + 4) 6 = pl ∧ XR x sh I J sh' I' J' k ∧ (k : Int) ≤ n - a0
  | .inr r => ∃ sh' I' J' k q, y = some (.inr (q, (sh', I', J'))) ∧ SA sh' I' r.1.1 r.1.2 q ∧ RC I' x B n r.2.1 deep r.2.2 ∧ XR x sh I J sh' I' J' k ∧ (k : Int) ≤ r.2.1 - a0 ∧ r.1.1 + 1 ≤ 2 * lvs r.1 + mis r.1
theorem RdP.pre {y : Option (Ex ⊕ (Nat × Me))} {k : Nat} {a' : Int} {R : PR} (h : RdP y sh1 I1 J1 x B n a' deep R) (g : XR x sh I J sh1 I1 J1 k) (hk : (k : Int) ≤ a' - a) : RdP y sh I J x B n a deep R := by
  cases R with
  | inl pl =>
    obtain ⟨sh', I', J', l, h1, h2, h3, h4⟩ := h
    exact ⟨sh', I', J', k + l, h1, h2, g.trans h3, by omega⟩
  | inr r =>
    obtain ⟨sh', I', J', l, q, h1, h2, h3, h4, h5, h6⟩ := h
    exact ⟨sh', I', J', k + l, q, h1, h2, h3, g.trans h4, by omega, h6⟩
theorem RdP.fail {y : Option (Ex ⊕ (Nat × Me))} {pl : Int} (hBD : BD sh) (h : FX y sh I J x pl) (ha : a ≤ n) : RdP y sh I J x B n a deep (.inl pl) := by
  obtain ⟨I', h1, h2, h3⟩ := h
  exact ⟨sh, I', J, 0, h1, h2, XR.fr hBD h3, by omega⟩
/-- faults of another type -/
theorem FX.to {α β : Type} {y : Option (Ex ⊕ α)} {f : α → Option (Ex ⊕ β)} {pl : Int} (h : FX y sh I J x pl) : FX (xb y (fun e => some (.inl e)) f) sh I J x pl := by
  obtain ⟨I', h1, h2⟩ := h
  exact ⟨I', by rw [h1, xb_l], h2⟩
theorem nO_m {c N : Nat} (h1 : 1 ≤ sh.1.2.1) (h2 : N ≤ sh.1.2.2) : nO (sh, I, J) c N = some (sh.1.1, (shNw sh c 0 N, up1 I sh.1.1 (fun _ => 0), up1 J sh.1.1 (fun _ => 0))) := nC_m h1 h2
theorem RC.new (h : RC I x B n a deep it) (hb : x + 694 < sh.1.1) {f : Int → Int} {q : Nat} (hq : sh.1.1 ≤ q) : RC (up1 I q f) x B n a deep it := by
  unfold RC at h ⊢
  rw [up1_n _ _ (by omega), up1_n _ _ (by omega)]
  exact h
theorem pR2 {c q a1 a2 : Nat} (hq : sh.2.1 q = c) : ((pR (sh, I, J) c q 0 a1).bind fun m2 => (pR m2 c q 1 a2).bind fun m3 => some m3) = some (shR sh q (upz (upz (sh.2.2.2 q) 0 (some a1)) 1 (some a2)), I, J) := by
  have h1 : pR (sh, I, J) c q 0 a1 = some (shR sh q (upz (sh.2.2.2 q) 0 (some a1)), I, J) := if_pos hq
  have h2 : pR (shR sh q (upz (sh.2.2.2 q) 0 (some a1)), I, J) c q 1 a2 = some (shR sh q (upz (upz (sh.2.2.2 q) 0 (some a1)) 1 (some a2)), I, J) := by
    unfold pR
    rw [if_pos (show (shR sh q (upz (sh.2.2.2 q) 0 (some a1))).2.1 q = c from hq)]
    show some ((sh.1, sh.2.1, sh.2.2.1, up1 (up1 sh.2.2.2 q _) q (upz (up1 sh.2.2.2 q _ q) 1 (some a2))), I, J) = _
    rw [up1_up1, up1_s]
    rfl
  rw [h1, bsome, h2, bsome]
/-- two trees are joined at a new cell -/
theorem SA.pair {q b c : Nat} {o : Int × Int} {t1 t2 : TT} (hq : sh.2.2.2 q = fun _ => none) (ht : sh.2.1 q = if o.1 = 2 then 14 else if o.1 = 3 then 13 else 12) (hI : ∀ b, b ≠ q → I' b = I b) (ho : o.1 = 4 → I' q 2 = o.2) (h1 : SA sh I t1.1 t1.2 b) (h2 : SA sh I t2.1 t2.2 c) :
    SA (shR sh q (upz (upz (sh.2.2.2 q) 0 (some b)) 1 (some c))) I' (tPr o t1 t2).1 (tPr o t1 t2).2 q := by
  have tq : 11 ≤ sh.2.1 q ∧ sh.2.1 q ≤ 14 := by rw [ht]; split <;> (try split) <;> omega
  have rq : (shR sh q (upz (upz (sh.2.2.2 q) 0 (some b)) 1 (some c))).2.2.2 q = upz (upz (sh.2.2.2 q) 0 (some b)) 1 (some c) := up1_s _ _ _
  refine ⟨⟨ht, ho⟩, b, c, ⟨by rw [rq, upz_n _ _ (by decide), upz_s], by rw [rq, upz_s]⟩, ?_, ?_⟩
  · rw [SA_to]
    exact SA.ref hq tq hI _ _ _ h1
  · rw [SA_to]
    exact SA.ref hq tq hI _ _ _ h2
theorem ht_pr (o : Int × Int) {t1 t2 : TT} (h1 : t1.1 + 1 ≤ 2 * lvs t1 + mis t1) (h2 : t2.1 + 1 ≤ 2 * lvs t2 + mis t2) : (tPr o t1 t2).1 + 1 ≤ 2 * lvs (tPr o t1 t2) + mis (tPr o t1 t2) := by
  rw [lvs_pr, mis_pr]
  have l1 := lvs_pos t1
  have l2 := lvs_pos t2
  show max t1.1 t2.1 + 1 + 1 ≤ _
  omega
/-- so long as a sign stands there that joins -/
theorem x_lpS (hn : n ≤ 400) (hB : okB B) {F : Nat → Nat → Int → Me → Option (Ex ⊕ (Nat × Me))} {G : Int → Int → PR} (hG : ∀ a it, 0 ≤ a → a ≤ n → 0 ≤ it → it ≤ 40 → ∀ r, G a it = .inr r → okT n deep a it r)
    (hF : ∀ (sh : Sh) (I J : Nat → Int → Int) (a it : Int), PRE sh I x B n a deep it → 0 ≤ a → a ≤ n → 0 ≤ it → it ≤ 40 → RdP (F 1 (x + 1) 0 (sh, I, J)) sh I J x B n a deep (G a it)) :
    ∀ (k : Nat) (t : TT) (a it : Int) (sh : Sh) (I J : Nat → Int → Int) (q : Nat), n - a < k → PRE sh I x B n a deep it → 0 ≤ a → a ≤ n → 0 ≤ it → it ≤ 40 → SA sh I t.1 t.2 q → t.1 + 1 ≤ 2 * lvs t + mis t →
      RdP (s_X2_sum_l5 F (x + 1) q (sh, I, J)) sh I J x B n a deep (lpR true B n 43 2 G k t a it)
  | 0, t, a, it, sh, I, J, q, h, _, _, _, _, _, _, _ => by omega
  | k + 1, t, a, it, sh, I, J, q, hk, P, h0, h1, h2, h3, hA, hh => by
    obtain ⟨⟨L, hb, hBD⟩, hr, hc1, hc2⟩ := id P
    obtain ⟨I1, e1, r1, f1⟩ := x2_sign (J := J) L hn hB hr h0 h1
    have sb := sgV_b hB n a
    have sc := sgV_c hB (n := n) (a := a) (c := 43) (by omega)
    have ss := skS_b (B := B) h0 h1 hn
    have el : s_X2_sum_l5 F (x + 1) q (sh, I, J) = (s_X2_sum_l5_st F (x + 1) q (sh, I, J)).bind fun z => z.elim (fun s : Nat × Me => s_X2_sum_l5 F (x + 1) s.1 s.2) some := by
      unfold s_X2_sum_l5
      rw [whileO_eq]
    rw [el]
    unfold s_X2_sum_l5_st lpR
    rw [r_ck L, bsome, e1, bsome]
    dsimp only
    rw [w32_id (x := sgV B n a) (by omega) (by omega), show w32 43 = 43 from rfl]
    obtain ⟨s, hs⟩ : ∃ s, skS B n a = s := ⟨_, rfl⟩
    rw [hs] at r1 sc ss ⊢
    have h5 : I1 (x + 1) 5 = s := r1.1.2
    by_cases c : s < n ∧ B s = 43
    · rw [if_pos (sc.mpr c), if_pos c, r_gI L, bsome, h5, r_ck L, bsome]
      obtain ⟨g1, g2⟩ := x2_counts (J := J) L r1 (pl := s) ⟨h2, h3⟩
      by_cases ci : it = 40
      · rw [if_pos ci, if_pos rfl]
        obtain ⟨I', q1, q2, q3⟩ := g1 ci
        exact RdP.fail hBD ⟨I', by rw [q1, xb_l]; rfl, q2, f1.trans q3⟩ h1
      · rw [if_neg ci, g2 ci, xb_r, r_gI L, bsome, r_pI L, bsome]
        have r2 := r1.w7 (it + 1)
        have f2 : FRc x I _ := f1.trans (FRc.put (I := I1) (k := 7) (v := it + 1) (Or.inr (Or.inr rfl)))
        obtain ⟨I2, hI2⟩ : ∃ I2, up1 I1 (x + 1) (upz (I1 (x + 1)) 7 (it + 1)) = I2 := ⟨_, rfl⟩
        rw [hI2] at r2 f2 ⊢
        have h52 : I2 (x + 1) 5 = s := r2.1.2
        have r3 := r2.w5 (s + 1)
        have f3 : FRc x I _ := f2.trans (FRc.put (I := I2) (k := 5) (v := s + 1) (Or.inl rfl))
        rw [h52]
        obtain ⟨I3, hI3⟩ : ∃ I3, up1 I2 (x + 1) (upz (I2 (x + 1)) 5 (s + 1)) = I3 := ⟨_, rfl⟩
        rw [hI3] at r3 f3 ⊢
        rw [nO_m (by omega) (by omega), bsome]
        dsimp only
        have X3 : XR x sh I J sh I3 J 0 := XR.fr hBD f3
        have X4 := X3.trans (XR.new (c := 14) (N := 2) (I := I3) (J := J) hBD hb (by omega) (by omega) (by omega))
        obtain ⟨A, hAe⟩ : ∃ A, sh.1.1 = A := ⟨_, rfl⟩
        obtain ⟨sh4, hs4⟩ : ∃ sh4, shNw sh 14 0 2 = sh4 := ⟨_, rfl⟩
        obtain ⟨J4, hJ4⟩ : ∃ J4, up1 J sh.1.1 (fun _ => 0) = J4 := ⟨_, rfl⟩
        obtain ⟨I4, hI4⟩ : ∃ I4, up1 I3 sh.1.1 (fun _ => 0) = I4 := ⟨_, rfl⟩
        have t4 : sh4.2.1 A = 14 ∧ sh4.2.2.2 A = fun _ => none := by rw [← hs4, ← hAe]; exact ⟨up1_s _ _ _, up1_s _ _ _⟩
        have a4 : sh4.1.1 = A + 1 := by rw [← hs4, ← hAe]; rfl
        rw [hs4, hI4, hJ4] at X4 ⊢
        rw [hAe]
        have r4 : RC I4 x B n (s + 1) deep (it + 1) := by rw [← hI4]; exact r3.new hb (Nat.le_refl _)
        have P4 : PRE sh4 I4 x B n (s + 1) deep (it + 1) := P.step X4 (by omega) (by omega) r4
        have L4 := P4.1.1
        have hR := hF sh4 I4 J4 (s + 1) (it + 1) P4 (by omega) (by omega) (by omega) (by omega)
        rw [r_ck L4, bsome]
        cases hGe : G (s + 1) (it + 1) with
        | inl pl =>
          rw [hGe] at hR
          obtain ⟨sh5, I5, J5, k5, q1, q2, q3, q4⟩ := hR
          rw [q1, xb_l]
          exact ⟨sh5, I5, J5, 0 + 1 + k5, rfl, q2, X4.trans q3, by omega⟩
        | inr r =>
          have ok := hG (s + 1) (it + 1) (by omega) (by omega) (by omega) (by omega) r hGe
          rw [hGe] at hR
          obtain ⟨sh5, I5, J5, k5, q5, q1, q2, q3, q4, q6, q7⟩ := hR
          have t5 := q4.2.1 A (by omega)
          have t5a : sh5.2.1 A = 14 := t5.1.trans t4.1
          have t5b : sh5.2.2.2 A = fun _ => none := t5.2.2.trans t4.2
          have X5 := (X4.trans q4).fill (g := upz (upz (sh5.2.2.2 A) 0 (some q)) 1 (some q5)) (q := A) (by omega)
          have ini : s_X17_init A q q5 (sh5, I5, J5) = some (shR sh5 A (upz (upz (sh5.2.2.2 A) 0 (some q)) 1 (some q5)), I5, J5) := by
            unfold s_X17_init s_X14_init_p14 s_X3_init
            rw [bsome, pR2 t5a, bsome]
          have sA5 : SA sh5 I5 t.1 t.2 q := (X4.trans q4).sa L hBD hA
          have sP := SA.pair (o := (2, 0)) (I' := I5) t5b (by rw [t5a]; rfl) (fun b _ => rfl) (fun e => absurd e (by decide)) sA5 q2
          have okb := ok.2.1
          have P6 := P.step (a' := r.2.1) X5 (by omega) okb.2 q3
          have IH := x_lpS hn hB hG hF k (tPr (2, 0) t r.1) r.2.1 r.2.2 _ I5 J5 A (by omega) P6 (by omega) okb.2 (by have := ok.2.2.1; have l := lvs_pos r.1; omega) ok.2.2.2.1 sP (ht_pr (2, 0) hh q7)
          rw [q1, xb_r]
          dsimp only
          rw [ini, bsome]
          exact IH.pre X5 (by omega)
    · rw [if_neg (fun e => c (sc.mp e)), if_neg c]
      exact ⟨sh, I1, J, 0, q, rfl, (XR.fr (J := J) hBD f1).sa L hBD hA, r1, XR.fr hBD f1, by show ((0 : Nat) : Int) ≤ s - a; omega, hh⟩
/-- the same of times -/
theorem x_lpT (hn : n ≤ 400) (hB : okB B) {F : Nat → Nat → Int → Me → Option (Ex ⊕ (Nat × Me))} {G : Int → Int → PR} (hG : ∀ a it, 0 ≤ a → a ≤ n → 0 ≤ it → it ≤ 40 → ∀ r, G a it = .inr r → okT n deep a it r)
    (hF : ∀ (sh : Sh) (I J : Nat → Int → Int) (a it : Int), PRE sh I x B n a deep it → 0 ≤ a → a ≤ n → 0 ≤ it → it ≤ 40 → RdP (F 2 (x + 1) 0 (sh, I, J)) sh I J x B n a deep (G a it)) :
    ∀ (k : Nat) (t : TT) (a it : Int) (sh : Sh) (I J : Nat → Int → Int) (q : Nat), n - a < k → PRE sh I x B n a deep it → 0 ≤ a → a ≤ n → 0 ≤ it → it ≤ 40 → SA sh I t.1 t.2 q → t.1 + 1 ≤ 2 * lvs t + mis t →
      RdP (s_X2_term_l5 F (x + 1) q (sh, I, J)) sh I J x B n a deep (lpR true B n 42 3 G k t a it)
  | 0, t, a, it, sh, I, J, q, h, _, _, _, _, _, _, _ => by omega
  | k + 1, t, a, it, sh, I, J, q, hk, P, h0, h1, h2, h3, hA, hh => by
    obtain ⟨⟨L, hb, hBD⟩, hr, hc1, hc2⟩ := id P
    obtain ⟨I1, e1, r1, f1⟩ := x2_sign (J := J) L hn hB hr h0 h1
    have sb := sgV_b hB n a
    have sc := sgV_c hB (n := n) (a := a) (c := 42) (by omega)
    have ss := skS_b (B := B) h0 h1 hn
    have el : s_X2_term_l5 F (x + 1) q (sh, I, J) = (s_X2_term_l5_st F (x + 1) q (sh, I, J)).bind fun z => z.elim (fun s : Nat × Me => s_X2_term_l5 F (x + 1) s.1 s.2) some := by
      unfold s_X2_term_l5
      rw [whileO_eq]
    rw [el]
    unfold s_X2_term_l5_st lpR
    rw [r_ck L, bsome, e1, bsome]
    dsimp only
    rw [w32_id (x := sgV B n a) (by omega) (by omega), show w32 42 = 42 from rfl]
    obtain ⟨s, hs⟩ : ∃ s, skS B n a = s := ⟨_, rfl⟩
    rw [hs] at r1 sc ss ⊢
    have h5 : I1 (x + 1) 5 = s := r1.1.2
    by_cases c : s < n ∧ B s = 42
    · rw [if_pos (sc.mpr c), if_pos c, r_gI L, bsome, h5, r_ck L, bsome]
      obtain ⟨g1, g2⟩ := x2_counts (J := J) L r1 (pl := s) ⟨h2, h3⟩
      by_cases ci : it = 40
      · rw [if_pos ci, if_pos rfl]
        obtain ⟨I', q1, q2, q3⟩ := g1 ci
        exact RdP.fail hBD ⟨I', by rw [q1, xb_l]; rfl, q2, f1.trans q3⟩ h1
      · rw [if_neg ci, g2 ci, xb_r, r_gI L, bsome, r_pI L, bsome]
        have r2 := r1.w7 (it + 1)
        have f2 : FRc x I _ := f1.trans (FRc.put (I := I1) (k := 7) (v := it + 1) (Or.inr (Or.inr rfl)))
        obtain ⟨I2, hI2⟩ : ∃ I2, up1 I1 (x + 1) (upz (I1 (x + 1)) 7 (it + 1)) = I2 := ⟨_, rfl⟩
        rw [hI2] at r2 f2 ⊢
        have h52 : I2 (x + 1) 5 = s := r2.1.2
        have r3 := r2.w5 (s + 1)
        have f3 : FRc x I _ := f2.trans (FRc.put (I := I2) (k := 5) (v := s + 1) (Or.inl rfl))
        rw [h52]
        obtain ⟨I3, hI3⟩ : ∃ I3, up1 I2 (x + 1) (upz (I2 (x + 1)) 5 (s + 1)) = I3 := ⟨_, rfl⟩
        rw [hI3] at r3 f3 ⊢
        rw [nO_m (by omega) (by omega), bsome]
        dsimp only
        have X3 : XR x sh I J sh I3 J 0 := XR.fr hBD f3
        have X4 := X3.trans (XR.new (c := 13) (N := 2) (I := I3) (J := J) hBD hb (by omega) (by omega) (by omega))
        obtain ⟨A, hAe⟩ : ∃ A, sh.1.1 = A := ⟨_, rfl⟩
        obtain ⟨sh4, hs4⟩ : ∃ sh4, shNw sh 13 0 2 = sh4 := ⟨_, rfl⟩
        obtain ⟨J4, hJ4⟩ : ∃ J4, up1 J sh.1.1 (fun _ => 0) = J4 := ⟨_, rfl⟩
        obtain ⟨I4, hI4⟩ : ∃ I4, up1 I3 sh.1.1 (fun _ => 0) = I4 := ⟨_, rfl⟩
        have t4 : sh4.2.1 A = 13 ∧ sh4.2.2.2 A = fun _ => none := by rw [← hs4, ← hAe]; exact ⟨up1_s _ _ _, up1_s _ _ _⟩
        have a4 : sh4.1.1 = A + 1 := by rw [← hs4, ← hAe]; rfl
        rw [hs4, hI4, hJ4] at X4 ⊢
        rw [hAe]
        have r4 : RC I4 x B n (s + 1) deep (it + 1) := by rw [← hI4]; exact r3.new hb (Nat.le_refl _)
        have P4 : PRE sh4 I4 x B n (s + 1) deep (it + 1) := P.step X4 (by omega) (by omega) r4
        have L4 := P4.1.1
        have hR := hF sh4 I4 J4 (s + 1) (it + 1) P4 (by omega) (by omega) (by omega) (by omega)
        rw [r_ck L4, bsome]
        cases hGe : G (s + 1) (it + 1) with
        | inl pl =>
          rw [hGe] at hR
          obtain ⟨sh5, I5, J5, k5, q1, q2, q3, q4⟩ := hR
          rw [q1, xb_l]
          exact ⟨sh5, I5, J5, 0 + 1 + k5, rfl, q2, X4.trans q3, by omega⟩
        | inr r =>
          have ok := hG (s + 1) (it + 1) (by omega) (by omega) (by omega) (by omega) r hGe
          rw [hGe] at hR
          obtain ⟨sh5, I5, J5, k5, q5, q1, q2, q3, q4, q6, q7⟩ := hR
          have t5 := q4.2.1 A (by omega)
          have t5a : sh5.2.1 A = 13 := t5.1.trans t4.1
          have t5b : sh5.2.2.2 A = fun _ => none := t5.2.2.trans t4.2
          have X5 := (X4.trans q4).fill (g := upz (upz (sh5.2.2.2 A) 0 (some q)) 1 (some q5)) (q := A) (by omega)
          have ini : s_X16_init A q q5 (sh5, I5, J5) = some (shR sh5 A (upz (upz (sh5.2.2.2 A) 0 (some q)) 1 (some q5)), I5, J5) := by
            unfold s_X16_init s_X14_init_p13 s_X3_init
            rw [bsome, pR2 t5a, bsome]
          have sA5 : SA sh5 I5 t.1 t.2 q := (X4.trans q4).sa L hBD hA
          have sP := SA.pair (o := (3, 0)) (I' := I5) t5b (by rw [t5a]; rfl) (fun b _ => rfl) (fun e => absurd e (by decide)) sA5 q2
          have okb := ok.2.1
          have P6 := P.step (a' := r.2.1) X5 (by omega) okb.2 q3
          have IH := x_lpT hn hB hG hF k (tPr (3, 0) t r.1) r.2.1 r.2.2 _ I5 J5 A (by omega) P6 (by omega) okb.2 (by have := ok.2.2.1; have l := lvs_pos r.1; omega) ok.2.2.2.1 sP (ht_pr (3, 0) hh q7)
          rw [q1, xb_r]
          dsimp only
          rw [ini, bsome]
          exact IH.pre X5 (by omega)
    · rw [if_neg (fun e => c (sc.mp e)), if_neg c]
      exact ⟨sh, I1, J, 0, q, rfl, (XR.fr (J := J) hBD f1).sa L hBD hA, r1, XR.fr hBD f1, by show ((0 : Nat) : Int) ≤ s - a; omega, hh⟩
end CR2
