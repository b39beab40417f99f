/-! the component: common parts, plain -/
set_option maxRecDepth 100000
/-- work, drawn, third -/
def aC (x i : Nat) : Prop := aF (x + 507) i ∨ aF (x + 513) i ∨ aF (x + 511) i
section CX2
variable {sh : Sh} {I J : Nat → Int → Int} {x : Nat} {p : Int} {W : Int → Int}
theorem nzI_lead {p : Int} {c : Int → Int} {n : Nat} (h : c 0 % p ≠ 0) (hn : 1 ≤ n) : nzI p c n = 0 := by
  rcases (nzI_iff p c n).1 with g | g
  · exact g
  · exact absurd ((nzI_iff p c n).2.mp g 0 (by omega) (by omega)) h
theorem x1_rest (L : CL sh x) (hI : I (x + 5 + 1) 0 = p) (hp : Pp p) {q1 q2 : Nat} {a b : Fo} (ha : a.1 ≤ 40) (hb : b.1 ≤ 40) (la : a.2 0 % p ≠ 0) (lb : b.2 0 % p ≠ 0) (Q1 : FA sh q1) (Q2 : FA sh q2) (hne : q1 ≠ q2) (n1 : q1 ≠ x + 511) (n2 : q2 ≠ x + 511) (hc : FM I q1 p a.1 a.2) (hB : FM I q2 p b.1 b.2) :
    (a.1 < b.1 → s_X1_rest x q1 q2 (sh, I, J) = some (1, (sh, I, J))) ∧
    (b.1 ≤ a.1 → nzI p (dvF p a b).2 (a.1 + 1) = 1 → ∃ I', s_X1_rest x q1 q2 (sh, I, J) = some (0, (sh, I', J)) ∧ AF (fun i => aF q1 i ∨ aF (x + 511) i) I I') ∧
    (b.1 ≤ a.1 → nzI p (dvF p a b).2 (a.1 + 1) = 0 → ∃ I', s_X1_rest x q1 q2 (sh, I, J) = some (1, (sh, I', J)) ∧ FM I' q1 p (stF p (dvF p a b)).1 (stF p (dvF p a b)).2 ∧ AF (fun i => aF q1 i ∨ aF (x + 511) i) I I') := by
  have D := L.dl
  have hpb := hp.b
  have run : s_X1_rest x q1 q2 (sh, I, J) = s_X1_rest_l17 x q1 q2 (ivS p (b.2 0 % p)) (sh, I, J) := by
    unfold s_X1_rest
    rw [l_dk L, bsome, d_f D, bsome, f_gR Q2, bsome, f_aI Q2 (by omega) (by omega), bsome, hB.2 0 (by omega) (by omega), d_ckf D, bsome, x7_inverse D.ff hI hp, bsome]
  rw [run]
  have h17 := fun h => x1_rest17 (J := J) L hp ha h lb Q1 Q2 hne n1 n2 (a.1 + 1) 0 a.2 I (by omega) (by omega) hI (by rw [Nat.sub_zero]; exact hc) hB (fun j u v => by
    rw [Nat.zero_min]
    show _ = a.2 (j + ((0 : Nat) : Int)) % p
    rw [show j + ((0 : Nat) : Int) = j by omega]) (fun i hi => by omega) la
  refine ⟨fun h => ?_, fun h => (h17 h).1, fun h => (h17 h).2⟩
  have eN := x8_isNought (I := I) (J := J) Q1 hp (by omega) hc
  rw [nzI_lead la (by omega)] at eN
  rw [e_X1_rest_l17]
  unfold s_X1_rest_l17_st
  rw [f_gI Q1, bsome, hc.1, f_gI Q2, bsome, hB.1, w32_id (x := (a.1 : Int)) (by omega) (by omega), w32_id (x := (b.1 : Int)) (by omega) (by omega), if_pos (by omega)]
  unfold s_X1_rest_b144
  rw [f_ck Q1, bsome, eN, bsome]
  rfl
theorem x1_gc (L : CL sh x) (hp : Pp p) {y : Int} : ∀ (n : Nat) (q1 q2 : Nat) (a b : Fo) (I : Nat → Int → Int), (q1 = x + 507 ∧ q2 = x + 513 ∨ q1 = x + 513 ∧ q2 = x + 507) → I (x + 5 + 1) 0 = p → a.1 ≤ 40 → b.1 ≤ 40 → min a.1 b.1 < n → a.2 0 % p ≠ 0 → b.2 0 % p ≠ 0 → FM I q1 p a.1 a.2 → FM I q2 p b.1 b.2 →
    ∃ I' q, s_X1_commons_l34 x y q1 q2 (sh, I, J) = s_X1_commons_b60 x y q (sh, I', J) ∧ (q = x + 507 ∨ q = x + 513) ∧ FM I' q p (gcS p n a b).1 (gcS p n a b).2 ∧ (gcS p n a b).2 0 % p ≠ 0 ∧ (gcS p n a b).1 ≤ min a.1 b.1 ∧ AF (aC x) I I'
  | 0, _, _, a, b, I, _, _, _, _, h, _, _, _, _ => by omega
  | n + 1, q1, q2, a, b, I, hq, hI, ha, hb, hm, la, lb, hc, hd => by
    have D := L.dl
    have z0 : w32 0 = 0 := rfl
    have z1 : ¬ w32 1 = 0 := by decide
    have fin : ∀ (q : Nat) (μ : Me), ((s_X1_commons_b60 x y q μ).map Sum.inr : Option ((Nat × Nat × Me) ⊕ (Nat × Me))).bind (fun z => z.elim (fun s : Nat × Nat × Me => s_X1_commons_l34 x y s.1 s.2.1 s.2.2) some) = s_X1_commons_b60 x y q μ := by
      intro q μ
      cases s_X1_commons_b60 x y q μ <;> rfl
    -- a turn where the first is not shorter
    have turn : ∀ (q1 q2 : Nat) (a b : Fo) (I1 : Nat → Int → Int), (q1 = x + 507 ∧ q2 = x + 513 ∨ q1 = x + 513 ∧ q2 = x + 507) → I1 (x + 5 + 1) 0 = p → a.1 ≤ 40 → b.1 ≤ a.1 → b.1 < n + 1 → a.2 0 % p ≠ 0 → b.2 0 % p ≠ 0 → FM I1 q1 p a.1 a.2 → FM I1 q2 p b.1 b.2 →
        ∃ I' q, s_X1_commons_l34 x y q1 q2 (sh, I1, J) = s_X1_commons_b60 x y q (sh, I', J) ∧ (q = x + 507 ∨ q = x + 513) ∧ FM I' q p (if nzI p (dvF p a b).2 ((dvF p a b).1 + 1) = 1 then b else gcS p n b (stF p (dvF p a b))).1 (if nzI p (dvF p a b).2 ((dvF p a b).1 + 1) = 1 then b else gcS p n b (stF p (dvF p a b))).2 ∧
          (if nzI p (dvF p a b).2 ((dvF p a b).1 + 1) = 1 then b else gcS p n b (stF p (dvF p a b))).2 0 % p ≠ 0 ∧ (if nzI p (dvF p a b).2 ((dvF p a b).1 + 1) = 1 then b else gcS p n b (stF p (dvF p a b))).1 ≤ b.1 ∧ AF (aC x) I1 I' := by
      intro q1 q2 a b I1 hq hI1 ha hab hbn la lb hc hd
      have Q1 : FA sh q1 := by
        rcases hq with e | e <;> rw [e.1]
        · exact L.fw
        · exact L.fd
      have Q2 : FA sh q2 := by
        rcases hq with e | e <;> rw [e.2]
        · exact L.fd
        · exact L.fw
      have ap := Q1.ap Q2 (by omega)
      have ap2 := Q2.ap L.ft (by omega)
      unfold AP at ap ap2
      obtain ⟨-, r1, r2⟩ := x1_rest (J := J) L hI1 hp ha (show b.1 ≤ 40 by omega) la lb Q1 Q2 (by omega) (by omega) (by omega) hc hd
      have mono : ∀ I2, AF (fun i => aF q1 i ∨ aF (x + 511) i) I1 I2 → AF (aC x) I1 I2 := fun I2 h => h.mono (fun i hi => by unfold aC; omega)
      have hd1 : (dvF p a b).1 = a.1 := rfl
      rw [hd1]
      rcases (nzI_iff p (dvF p a b).2 (a.1 + 1)).1 with h | h
      · obtain ⟨I2, e2, g2, f2⟩ := r2 hab h
        rw [h, if_neg (by decide)]
        have hn : ¬ nz p (dvF p a b).1 (dvF p a b).2 := nz_not (F := dvF p a b) h
        have hs : (stF p (dvF p a b)).1 < b.1 := by
          rcases dvF_short hp lb hab hn with h9 | h9
          · exact h9
          · exact absurd h9.2 id
        have hd2 := hd.keep f2 (by omega) (by omega)
        obtain ⟨I3, q, e3, q3, r3, l3, d3, f3⟩ := x1_gc L hp n q2 q1 b (stF p (dvF p a b)) I2 (by omega) (by rw [f2 (x + 5 + 1) (by omega)]; exact hI1) (by omega) (by omega) (by omega) lb (stF_lead hn) hd2 g2
        refine ⟨I3, q, ?_, q3, r3, l3, by omega, (mono _ f2).trans f3⟩
        rw [e_X1_commons_l34]
        unfold s_X1_commons_l34_st
        rw [l_ck L, bsome, e2, bsome]
        dsimp only
        rw [if_neg z1, bsome]
        exact e3
      · obtain ⟨I2, e2, f2⟩ := r1 hab h
        rw [h, if_pos rfl]
        refine ⟨I2, q2, ?_, by omega, hd.keep f2 (by omega) (by omega), lb, Nat.le_refl _, mono _ f2⟩
        rw [e_X1_commons_l34]
        unfold s_X1_commons_l34_st
        rw [l_ck L, bsome, e2, bsome]
        dsimp only
        rw [if_pos z0]
        exact fin _ _
    unfold gcS
    by_cases hab : a.1 < b.1
    · rw [if_pos hab]
      have Q1 : FA sh q1 := by
        rcases hq with e | e <;> rw [e.1]
        · exact L.fw
        · exact L.fd
      have Q2 : FA sh q2 := by
        rcases hq with e | e <;> rw [e.2]
        · exact L.fd
        · exact L.fw
      obtain ⟨e1, -, -⟩ := x1_rest (J := J) L hI hp ha hb la lb Q1 Q2 (by omega) (by omega) (by omega) hc hd
      obtain ⟨I', q, x1, x2, x3, x4, x5, x6⟩ := turn q2 q1 b a I (by omega) hI hb (by omega) (by omega) lb la hd hc
      refine ⟨I', q, ?_, x2, x3, x4, by omega, x6⟩
      rw [e_X1_commons_l34]
      unfold s_X1_commons_l34_st
      rw [l_ck L, bsome, e1 hab, bsome]
      dsimp only
      rw [if_neg z1, bsome]
      exact x1
    · rw [if_neg hab]
      obtain ⟨I', q, x1, x2, x3, x4, x5, x6⟩ := turn q1 q2 a b I hq hI ha (by omega) (by omega) la lb hc hd
      exact ⟨I', q, x1, x2, x3, x4, by omega, x6⟩
theorem x1_commons (L : CL sh x) (hI : I (x + 5 + 1) 0 = p) (hp : Pp p) {q1 q2 : Nat} {F G : Fo} (hF : F.1 ≤ 20) (hG : G.1 ≤ 20) (Q1 : FA sh q1) (Q2 : FA sh q2) (m1 : q1 ≠ x + 507) (m2 : q2 ≠ x + 507) (m3 : q2 ≠ x + 513) (nF : ¬ nz p F.1 F.2) (nG : ¬ nz p G.1 G.2) (hc : FM I q1 p F.1 F.2) (hd : FM I q2 p G.1 G.2) :
    ∃ I', s_X1_commons x q1 q2 (sh, I, J) = some (x + 550, (sh, I', J)) ∧ FM I' (x + 550) p (cmP p F G).1 (cmP p F G).2 ∧ (cmP p F G).1 ≤ 40 ∧ AF (fun i => aC x i ∨ aF (x + 550) i) I I' := by
  have D := L.dl
  have hpb := hp.b
  have nf := stN_le p F
  have ng := stN_le p G
  have sf := stF_1 p F
  have sg := stF_1 p G
  have S0 : FA sh (x + 550) := L.cv.fs (k := 0) (by omega)
  obtain ⟨I1, e1, r1, f1⟩ := x1_bares (x := x) (I := I) (J := J) hp (show F.1 ≤ 40 by omega) Q1 L.fw m1 nF hc
  have ap := Q2.ap L.fw m2
  unfold AP at ap
  have hd1 := hd.keep f1 (by omega) (by omega)
  obtain ⟨I2, e2, r2, f2⟩ := x1_bares (x := x) (I := I1) (J := J) hp (show G.1 ≤ 40 by omega) Q2 L.fd m3 nG hd1
  have r1' := r1.keep f2 (by omega) (by omega)
  have f12 : AF (aC x) I I2 := (f1.mono (fun i hi => by unfold aC; omega)).trans (f2.mono (fun i hi => by unfold aC; omega))
  have hI2 : I2 (x + 5 + 1) 0 = p := by rw [f12 _ (by unfold aC; omega)]; exact hI
  obtain ⟨I3, q, e3, hq, r3, l3, d3, f3⟩ := x1_gc (J := J) (y := (yyP p F G : Int)) L hp 50 (x + 507) (x + 513) (stF p F) (stF p G) I2 (Or.inl ⟨rfl, rfl⟩) hI2 (by omega) (by omega) (by omega) (stF_lead nF) (stF_lead nG) r1' r2
  have Q : FA sh q := by
    rcases hq with e | e <;> rw [e]
    · exact L.fw
    · exact L.fd
  unfold cmP gcP
  obtain ⟨B, hB⟩ : ∃ B, gcS p 50 (stF p F) (stF p G) = B := ⟨_, rfl⟩
  rw [hB] at r3 l3 d3 ⊢
  have hy : ((yyP p F G : Nat) : Int) = min (stN p F : Int) (stN p G) := by
    unfold yyP
    omega
  obtain ⟨y, hyy⟩ : ∃ y, yyP p F G = y := ⟨_, rfl⟩
  rw [hyy] at hy e3 ⊢
  have hyl : y + B.1 ≤ 40 := by omega
  have hI3 : I3 (x + 5 + 1) 0 = p := by rw [f3 _ (by unfold aC; omega)]; exact hI2
  have o0 := r3.2 0 (by omega) (by omega)
  have e4 := x7_inverse (J := J) D.ff hI3 hp (B.2 0)
  obtain ⟨s, hs⟩ : ∃ s, ivS p (B.2 0 % p) = s := ⟨_, rfl⟩
  have hsm : s % p = s := by rw [← hs]; exact ivS_m _
  rw [hs] at e4
  obtain ⟨I4, e5, r5, z5, f5⟩ := x8_nought (I := I3) (J := J) S0 p (d := (B.1 : Int) + y) (by omega)
  have r3' := r3.keep f5 (by omega) (by omega)
  have hI4 : I4 (x + 5 + 1) 0 = p := by rw [f5 _ (by omega)]; exact hI3
  have fin : ∃ I', s_X1_commons_l102 x y q s (x + 550) 0 (sh, I4, J) = some (x + 550, (sh, I', J)) ∧ FM I' (x + 550) p (cmF p B y).1 (cmF p B y).2 ∧ AF (aF (x + 550)) I4 I' := by
    unfold s_X1_commons_l102
    refine ex_g (fun I' => (x + 550, ((sh, I', J) : Me))) (whileO_for (B.1 + 1)
      (fun i z => ∃ I', z = ((i : Int), ((sh, I', J) : Me)) ∧ I' (x + 550) 1 = (B.1 : Int) + y ∧ (∀ k : Int, 0 ≤ k → k ≤ (B.1 : Int) + y → k < i + y → I' (x + 550 + 1) k = cl B.1 B.2 (k - y) * s % p) ∧ (∀ k : Int, i + y ≤ k → k ≤ (B.1 : Int) + y → I' (x + 550 + 1) k = 0) ∧ AF (aF (x + 550)) I4 I')
      _ ?_ ?_ _ ?_)
    · rintro i z hi ⟨I5, rfl, a1, a2, a3, a4⟩
      have b1 := r3'.keep a4 (by omega) (by omega)
      have b2 := b1.2 i (by omega) (by omega)
      have hI5 : I5 (x + 5 + 1) 0 = p := by rw [a4 _ (by omega)]; exact hI4
      have e6 := x7_mul (J := J) D.ff hI5 hp (B.2 i) s
      rw [hsm] at e6
      obtain ⟨I6, e7, k1, k2, k3, k4⟩ := f_put (I := I5) (J := J) S0 (k := (y : Int) + i) (v := B.2 i * s % p) (by omega) (by omega)
      refine ⟨((i : Int) + 1, (sh, I6, J)), ?_, I6, by simp, by rw [k2]; exact a1, fun k u v w => ?_, fun k u v => ?_, a4.trans k4⟩
      · unfold s_X1_commons_l102_st
        dsimp only
        rw [f_gI Q, bsome, b1.1, w32_id (x := (B.1 : Int)) (by omega) (by omega), w32_id (x := (i : Int)) (by omega) (by omega), if_neg (by omega), f_gR S0, bsome, l_dk L, bsome, d_f D, bsome, f_gR Q, bsome, f_aI Q (by omega) (by omega), bsome, b2, d_ckf D, bsome, e6, bsome]
        dsimp only
        rw [e7, bsome]
      · by_cases e : k = y + i
        · rw [e, k1, show (y : Int) + i - y = i by omega, cl_in (by omega) (by omega)]
        · rw [k3 _ e]
          exact a2 k u v (by omega)
      · rw [k3 _ (by omega)]
        exact a3 k (by omega) v
    · rintro z ⟨I5, rfl, a1, a2, a3, a4⟩
      have b1 := r3'.keep a4 (by omega) (by omega)
      unfold s_X1_commons_l102_st
      dsimp only
      rw [f_gI Q, bsome, b1.1, w32_id (x := (B.1 : Int)) (by omega) (by omega), w32_id (by omega) (by omega), if_pos (by omega)]
      refine ⟨_, rfl, I5, rfl, ⟨a1.trans ?_, fun k u v => ?_⟩, a4⟩
      · show _ = ((B.1 + y : Nat) : Int)
        omega
      · have y3 : k ≤ (B.1 : Int) + y := by
          have : ((cmF p B y).1 : Int) = B.1 + y := by
            show ((B.1 + y : Nat) : Int) = _
            omega
          omega
        rw [a2 k u y3 (by omega)]
        show _ = cl B.1 B.2 (k - y) * ivS p (B.2 0 % p) % p
        rw [hs]
    · refine ⟨I4, rfl, r5.1, fun k u v w => ?_, fun k u v => ?_, AF.refl⟩
      · rw [r5.2 k u v, show cl B.1 B.2 (k - y) = 0 from if_neg (by omega), Int.zero_mul]
      · rw [r5.2 k (by omega) v, Int.zero_emod]
  obtain ⟨I5, e6, r6, f6⟩ := fin
  refine ⟨I5, ?_, r6, by show B.1 + y ≤ 40; omega, ((f12.trans f3).mono (fun i => Or.inl)).trans ((f5.trans f6).mono (fun i => Or.inr))⟩
  have c0 := c_shelf (I := I3) (J := J) L.cv (k := 0) (by omega)
  rw [show ((0 : Nat) : Int) = 0 from rfl] at c0
  unfold s_X1_commons
  rw [l_wk L, bsome, l_ck L, bsome, e1, bsome]
  dsimp only
  rw [l_dr L, bsome, l_ck L, bsome, e2, bsome]
  dsimp only
  rw [x_min ⟨by omega, by omega⟩ ⟨by omega, by omega⟩, bsome]
  dsimp only
  rw [l_wk L, bsome, l_dr L, bsome, ← hy, e3]
  unfold s_X1_commons_b60
  rw [l_dk L, bsome, d_f D, bsome, f_gR Q, bsome, f_aI Q (by omega) (by omega), bsome, o0, d_ckf D, bsome, e4, bsome]
  dsimp only
  rw [l_sv L, bsome, c0, bsome, f_gI Q, bsome, r3.1, f_ck S0, bsome, e5, bsome]
  exact e6
theorem x_common (L : CL sh x) (R : Room sh) (hS : SR sh I (x + 16) W) (hI : I (x + 5 + 1) 0 = W 0) (hW : WI W) {f g k : Int} (hf : i32 f) (hg : i32 g) (hk : i32 k) :
    ((0 ≤ f ∧ f < W 1) → (0 ≤ g ∧ g < W 1) → CG (s_X1_common x f g k (sh, I, J)) sh I J x (comP (W 0) (fF W f) (fF W g) k)) ∧
    (¬((0 ≤ f ∧ f < W 1) ∧ (0 ≤ g ∧ g < W 1)) → CB (s_X1_common x f g k (sh, I, J)) sh I J 3) := by
  have hc1 := hW.c1
  have hp := hW.pp
  obtain ⟨y1, y2⟩ := x1_formAt (J := J) L R (n := W 1) hS.1.1.2.1 (by omega) hf
  obtain ⟨z1, z2⟩ := x1_formAt (J := J) L R (n := W 1) hS.1.1.2.1 (by omega) hg
  unfold s_X1_common
  rw [l_ck L, bsome]
  refine ⟨fun h1 h2 => ?_, fun h => ?_⟩
  · obtain ⟨f1, f2⟩ := hS.ff hW h1.1 h1.2
    obtain ⟨g1, g2⟩ := hS.ff hW h2.1 h2.2
    have Q1 := L.q (k := f) (by omega)
    have Q2 := L.q (k := g) (by omega)
    have e5 := x8_isNought (J := J) Q1 hp (by omega) f1
    have e6 := x8_isNought (J := J) Q2 hp (by omega) g1
    rw [y1 h1, xb_r, l_ck L, bsome, z1 h2, xb_r]
    obtain ⟨F, hF⟩ : ∃ F, fF W f = F := ⟨_, rfl⟩
    obtain ⟨G, hG⟩ : ∃ G, fF W g = G := ⟨_, rfl⟩
    rw [hF] at f1 f2 e5 ⊢
    rw [hG] at g1 g2 e6 ⊢
    rw [show ((F.1 : Int) + 1).toNat = F.1 + 1 by omega] at e5
    rw [show ((G.1 : Int) + 1).toNat = G.1 + 1 by omega] at e6
    rw [f_ck Q1, bsome, e5, bsome]
    unfold comP
    dsimp only
    rcases (nzI_iff (W 0) F.2 (F.1 + 1)).1 with n1 | n1
    · rw [n1, if_pos (show w32 0 = 0 from rfl), f_ck Q2, bsome, e6, bsome]
      dsimp only
      rcases (nzI_iff (W 0) G.2 (G.1 + 1)).1 with n2 | n2
      · obtain ⟨I4, e7, r7, d7, f7⟩ := x1_commons (J := J) L hI hp (F := F) (G := G) (by omega) (by omega) Q1 Q2 (by omega) (by omega) (by omega) (nz_not n1) (nz_not n2) f1 g1
        have S0 : FA sh (x + 550) := L.cv.fs (k := 0) (by omega)
        rw [n2, if_pos (show w32 0 = 0 from rfl), if_neg (show ¬((0 : Int) = 1 ∨ (0 : Int) = 1) by decide), l_ck L, bsome, e7, bsome]
        dsimp only
        rw [x1_tells S0 (by omega) hk r7, bsome]
        exact ⟨I4, rfl, f7.mono (fun i hi => by unfold aC at hi; unfold xS; omega)⟩
      · rw [n2, if_neg (show ¬ w32 1 = 0 by decide), if_pos (Or.inr rfl)]
        exact CG.of rfl
    · rw [n1, if_neg (show ¬ w32 1 = 0 by decide), if_pos (Or.inl rfl)]
      exact CG.of rfl
  · unfold CB
    by_cases g1 : 0 ≤ f ∧ f < W 1
    · have := z2 (fun e => h ⟨g1, e⟩)
      unfold CB at this
      rw [y1 g1, xb_r, l_ck L, bsome, this, xb_l]
    · have := y2 g1
      unfold CB at this
      rw [this, xb_l]
theorem x_plain (L : CL sh x) (R : Room sh) (hS : SR sh I (x + 16) W) (hI : I (x + 5 + 1) 0 = W 0) (hW : WI W) {f : Int} (hf : i32 f) :
    ((0 ≤ f ∧ f < W 1) → CG (s_X1_plain x f (sh, I, J)) sh I J x (plnP (W 0) (fF W f))) ∧ (¬(0 ≤ f ∧ f < W 1) → CB (s_X1_plain x f (sh, I, J)) sh I J 3) := by
  have hc1 := hW.c1
  have hp := hW.pp
  have D := L.dl
  obtain ⟨y1, y2⟩ := x1_formAt (J := J) L R (n := W 1) hS.1.1.2.1 (by omega) hf
  unfold s_X1_plain
  rw [l_ck L, bsome]
  refine ⟨fun h1 => ?_, fun h => ?_⟩
  · obtain ⟨f1, f2⟩ := hS.ff hW h1.1 h1.2
    have Q1 := L.q (k := f) (by omega)
    have z0 : w32 0 = 0 := rfl
    have z1 : ¬ w32 1 = 0 := by decide
    have hqb : x + 16 ≤ x + 16 + 13 + 2 * f.toNat ∧ x + 16 + 13 + 2 * f.toNat ≤ x + 505 := by omega
    rw [y1 h1, xb_r]
    obtain ⟨q, hq⟩ : ∃ q, x + 16 + 13 + 2 * f.toNat = q := ⟨_, rfl⟩
    obtain ⟨F, hF⟩ : ∃ F, fF W f = F := ⟨_, rfl⟩
    rw [hq] at f1 Q1 hqb ⊢
    rw [hF] at f1 f2 ⊢
    have e5 := x8_isNought (J := J) Q1 hp (by omega) f1
    rw [show ((F.1 : Int) + 1).toNat = F.1 + 1 by omega] at e5
    have c1 : ∀ I' : Nat → Int → Int, aR (sh, I', J) 104 (x + 506) 1 = some (x + 552) := fun I' => c_shelf (I := I') (J := J) L.cv (k := 1) (by omega)
    have c2 : ∀ I' : Nat → Int → Int, aR (sh, I', J) 104 (x + 506) 2 = some (x + 554) := fun I' => c_shelf (I := I') (J := J) L.cv (k := 2) (by omega)
    have S1 : FA sh (x + 552) := L.cv.fs (k := 1) (by omega)
    have S2 : FA sh (x + 554) := L.cv.fs (k := 2) (by omega)
    rw [f_gI Q1, bsome, f1.1, w32_id (x := (F.1 : Int)) (by omega) (by omega), show w32 2 = 2 from rfl]
    unfold plnP
    by_cases h2 : F.1 < 2
    · rw [if_pos (by omega), if_pos (Or.inl h2)]
      exact CG.of rfl
    rw [if_neg (by omega), f_ck Q1, bsome, e5, bsome]
    dsimp only
    rcases (nzI_iff (W 0) F.2 (F.1 + 1)).1 with n1 | n1
    · rw [n1, if_pos z0, if_neg (show ¬(F.1 < 2 ∨ (0 : Int) = 1) by omega), l_sv L, bsome, c1, bsome, bsome, c2, bsome, l_dk L, bsome, d_ck D, bsome]
      obtain ⟨I1, e7, r7, f7⟩ := x6_differs (J := J) (bx := 1) (bz := 0) D hI hp Q1 S1 (by omega) (by omega) (by omega) (by omega) (by omega) f1
      have f1' := f1.keep f7 (by omega) (by omega)
      have hI1 : I1 (x + 5 + 1) 0 = W 0 := by rw [f7 _ (by omega)]; exact hI
      obtain ⟨I2, e8, r8, f8⟩ := x6_differs (J := J) (bx := 0) (bz := 1) D hI1 hp Q1 S2 (by omega) (by omega) (by omega) (by omega) (by omega) f1'
      have r7' := r7.keep f8 (by omega) (by omega)
      have hI2 : I2 (x + 5 + 1) 0 = W 0 := by rw [f8 _ (by omega)]; exact hI1
      have f78 : AF (xS x) I I2 := (f7.mono (fun i hi => by unfold xS; omega)).trans (f8.mono (fun i hi => by unfold xS; omega))
      have q7 : FM I2 (x + 552) (W 0) (dfF F 1 0).1 (dfF F 1 0).2 := by
        show FM I2 (x + 552) (W 0) ((F.1 - 1 - 0 : Nat) : Int) (difP F.1 F.2 1 0)
        rw [show ((F.1 - 1 - 0 : Nat) : Int) = F.1 - 1 - 0 by omega]
        exact r7'
      have q8 : FM I2 (x + 554) (W 0) (dfF F 0 1).1 (dfF F 0 1).2 := by
        show FM I2 (x + 554) (W 0) ((F.1 - 0 - 1 : Nat) : Int) (difP F.1 F.2 0 1)
        rw [show ((F.1 - 0 - 1 : Nat) : Int) = F.1 - 0 - 1 by omega]
        exact r8
      have g1 : (dfF F 1 0).1 + 1 = F.1 := by
        show F.1 - 1 - 0 + 1 = F.1
        omega
      have g2 : (dfF F 0 1).1 + 1 = F.1 := by
        show F.1 - 0 - 1 + 1 = F.1
        omega
      have e9 := x8_isNought (J := J) S1 hp (by omega) q7
      have e10 := x8_isNought (J := J) S2 hp (by omega) q8
      rw [show (((dfF F 1 0).1 : Int) + 1).toNat = F.1 by omega] at e9
      rw [show (((dfF F 0 1).1 : Int) + 1).toNat = F.1 by omega] at e10
      rw [e7, bsome, l_dk L, bsome, d_ck D, bsome, e8, bsome, f_ck S1, bsome, e9, bsome]
      dsimp only
      rcases (nzI_iff (W 0) (dfF F 1 0).2 F.1).1 with n3 | n3
      · rw [n3, if_pos z0, f_ck S2, bsome, e10, bsome]
        dsimp only
        rcases (nzI_iff (W 0) (dfF F 0 1).2 F.1).1 with n4 | n4
        · have n3' : ¬ nz (W 0) (dfF F 1 0).1 (dfF F 1 0).2 := nz_not (F := dfF F 1 0) (by rw [g1]; exact n3)
          have n4' : ¬ nz (W 0) (dfF F 0 1).1 (dfF F 0 1).2 := nz_not (F := dfF F 0 1) (by rw [g2]; exact n4)
          obtain ⟨I4, s1, s2, s3, s4⟩ := x1_commons (J := J) L hI2 hp (F := dfF F 1 0) (G := dfF F 0 1) (by omega) (by omega) S1 S2 (by omega) (by omega) (by omega) n3' n4' q7 q8
          have S0 : FA sh (x + 550) := L.cv.fs (k := 0) (by omega)
          have f4 : AF (xS x) I I4 := f78.trans (s4.mono (fun i hi => by unfold aC at hi; unfold xS; omega))
          rw [n4, if_pos z0, if_neg (show ¬((0 : Int) = 1 ∨ (0 : Int) = 1) by decide), l_ck L, bsome, s1, bsome]
          dsimp only
          rw [f_gI S0, bsome, s2.1, w32_id (x := ((cmP (W 0) (dfF F 1 0) (dfF F 0 1)).1 : Int)) (by omega) (by omega)]
          by_cases h9 : (cmP (W 0) (dfF F 1 0) (dfF F 0 1)).1 = 0
          · rw [if_pos (by omega), if_pos h9]
            exact ⟨I4, rfl, f4⟩
          · rw [if_neg (by omega), if_neg h9]
            exact ⟨I4, rfl, f4⟩
        · rw [n4, if_neg z1, if_pos (Or.inr rfl)]
          exact ⟨I2, rfl, f78⟩
      · rw [n3, if_neg z1, if_pos (Or.inl rfl)]
        exact ⟨I2, rfl, f78⟩
    · rw [n1, if_neg z1, if_pos (Or.inr rfl)]
      exact CG.of rfl
  · have := y2 h
    unfold CB at this ⊢
    rw [this, xb_l]
end CX2
