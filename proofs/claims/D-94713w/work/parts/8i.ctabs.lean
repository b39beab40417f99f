/-! the component: all tables -/
set_option maxRecDepth 100000
section CT
variable {sh : Sh} {I J : Nat → Int → Int} {x : Nat} {p : Int} {W : Int → Int}
theorem l_fs (L : CL sh x) : gR (sh, I, J) 0 x 15 = some (x + 549) := gR_m L.t L.2.2.2.2.2.2.2.2.2.2.2.2.2.2.1
theorem fs_a (L : CL sh x) {j : Int} (h0 : 0 ≤ j) (h1 : j < 20) : aI (sh, I, J) 101 (x + 549) j = some (I (x + 549) j) := aI_m L.2.2.2.2.2.2.2.2.2.2.2.2.2.2.2 h0 h1
theorem fs_u (L : CL sh x) {j v : Int} (h0 : 0 ≤ j) (h1 : j < 20) : uI (sh, I, J) (x + 549) j v = some (sh, up1 I (x + 549) (upz (I (x + 549)) j v), J) := uI_m L.2.2.2.2.2.2.2.2.2.2.2.2.2.2.2 h0 h1
/-- what holds all through the search: only scratch moves; the first numbers lie there -/
def XQ1 (sh : Sh) (I J : Nat → Int → Int) (x : Nat) (μ : Me) : Prop := ∃ I' : Nat → Int → Int, μ = (sh, I', J) ∧ AF (xS x) I I'
def XQ2 (sh : Sh) (I J : Nat → Int → Int) (x : Nat) (p : Int) (F : Fo) (a : Nat) (μ : Me) : Prop := ∃ I' : Nat → Int → Int, μ = (sh, I', J) ∧ AF (xS x) I I' ∧ ∀ c : Int, 0 ≤ c → c < p → I' (x + 549) c = evP F.1 F.2 a c % p
theorem x1_tables (L : CL sh x) (hI : I (x + 5 + 1) 0 = p) (hp : Pp p) {q1 q2 : Nat} {F G : Fo} {w : Int} (hw : w = 0 ∨ w = 1) (hF : F.1 ≤ 40) (hG : G.1 ≤ 40) (Q1 : FA sh q1) (Q2 : FA sh q2) (h1 : x + 16 ≤ q1 ∧ q1 + 1 ≤ x + 505) (h2 : x + 16 ≤ q2 ∧ q2 + 1 ≤ x + 505) (hc : FM I q1 p F.1 F.2) (hg : FM I q2 p G.1 G.2) :
    ∃ I', s_X1_tables x q1 q2 w (sh, I, J) = some (triP p F G w, (sh, I', J)) ∧ AF (xS x) I I' := by
  have hb := hp.b
  have D := L.dl
  have z0 : w32 0 = 0 := rfl
  have z9 : ¬ w32 1 = 0 := by decide
  have bl := emod_b hp (G.2 0)
  have bh := emod_b hp (G.2 G.1)
  unfold s_X1_tables
  rw [l_dk L, bsome, d_f D, bsome, gI_m D.ff, bsome, hI]
  -- the innermost loop
  have lD : ∀ (a b c : Nat) (n : Int) (μ : Me), (a : Int) < p → (b : Int) < p → (c : Int) < p → XQ2 sh I J x p F a μ → ∃ μ', XQ2 sh I J x p F a μ' ∧ s_X1_tables_l102 x q1 q2 w n p a b c 0 μ = some ((trC p F G w a b c n).elim (fun n' => .inl (n', (c : Int) + 1, μ')) (fun e => .inr (.inr (.inr (e, μ'))))) := by
    intro a b c n μ ha hb2 hc2 hq
    unfold s_X1_tables_l102
    refine lp_loop (f := fun s : Int × Int × Me => s_X1_tables_l102_st x q1 q2 w s.1 p a b c s.2.1 s.2.2) (trD p F G w a b c) p.toNat (XQ2 sh I J x p F a) (fun e μ' => .inr (.inr (.inr (e, μ')))) (fun n' μ' => .inl (n', (c : Int) + 1, μ')) ?_ ?_ p.toNat 0 n μ (by omega) hq
    · rintro d n μ hd ⟨I2, rfl, k2, v2⟩
      have hI2 : I2 (x + 5 + 1) 0 = p := by rw [xS.f k2]; exact hI
      have r2 := xS.q k2 hc h1.1 h1.2
      have g2 := xS.q k2 hg h2.1 h2.2
      have db := emod_b hp (dtP (a : Int) b c d)
      have eb := emod_b hp (evP F.1 F.2 b d)
      unfold s_X1_tables_l102_st
      dsimp only
      rw [w32_id (x := p) (by omega) (by omega), w32_id (x := (d : Int)) (by omega) (by omega), if_neg (by omega), l_ck L, bsome, x1_detOf L hI2 hp (by omega) (by omega) (by omega) (by omega), bsome]
      dsimp only
      rw [w32_id (x := dtP (a : Int) b c d % p) (by omega) (by omega)]
      by_cases h8 : dtP (a : Int) b c d % p = 0
      · have ht : trD p F G w a b c d n = .inl n := by
          unfold trD gdT
          rw [if_pos h8, if_neg (by decide)]
        rw [if_pos h8, ht]
        exact ⟨_, ⟨I2, rfl, k2, v2⟩, rfl⟩
      · have eA := x6_at (J := J) D hI2 hp (b : Int) (d : Int) Q1 (n := F.1) (by omega) r2
        rw [emod_id p (a := (b : Int)) ⟨by omega, hb2⟩, emod_id p (a := (d : Int)) ⟨by omega, by omega⟩] at eA
        rw [if_neg h8, l_dk L, bsome, d_ck D, bsome, eA, bsome]
        dsimp only
        rw [f_gR Q2, bsome, f_gI Q2, bsome, g2.1, f_aI Q2 (by omega) (by omega), bsome, g2.2 G.1 (by omega) (by omega), w32_id (x := evP F.1 F.2 b d % p) (by omega) (by omega), w32_id (x := G.2 G.1 % p) (by omega) (by omega)]
        by_cases h9 : evP F.1 F.2 b d % p = G.2 G.1 % p
        · obtain ⟨I3, e3, m3, f3⟩ := x6_mixedT (J := J) D hI2 hp (a := (a : Int)) (b := (b : Int)) (c := (c : Int)) (e := (d : Int)) ⟨by omega, ha⟩ ⟨by omega, hb2⟩ ⟨by omega, hc2⟩ ⟨by omega, by omega⟩ Q1 L.fw (by omega) (by omega) hF r2
          have A3 : AF (xS x) I2 I3 := f3.mono (fun i hi => by unfold xS; omega)
          have v3 : ∀ c : Int, 0 ≤ c → c < p → I3 (x + 549) c = evP F.1 F.2 a c % p := fun c u v => by
            rw [f3 (x + 549) (by omega)]
            exact v2 c u v
          have q3 : XQ2 sh I J x p F a (sh, I3, J) := ⟨I3, rfl, k2.trans A3, v3⟩
          have e4 := x8_same (J := J) L.fw Q2 hp (d := F.1) (d2 := G.1) (by omega) (by omega) m3 (xS.q A3 g2 h2.1 h2.2)
          have hgd : gdT p F G a b c d = lkI p F.1 (mixP F.1 a b c d F.2) G.1 G.2 := by
            unfold gdT
            rw [if_neg h8, lkI_symm _ _ _ _ _ (by omega) (by omega)]
          rw [if_pos h9, l_dk L, bsome, l_wk L, bsome, d_ck D, bsome, e3, bsome, l_wk L, bsome, f_ck L.fw, bsome, e4, bsome, ← hgd]
          dsimp only
          rcases gdT_b p F G a b c d with h7 | h7
          · have ht : trD p F G w a b c d n = .inl n := by
              unfold trD
              rw [h7, if_neg (by decide)]
            rw [h7, ht, if_pos z0]
            exact ⟨_, q3, rfl⟩
          · rw [h7, if_neg z9]
            unfold trD
            rw [h7, if_pos rfl]
            rcases hw with rfl | rfl
            · rw [if_pos z0, if_pos rfl]
              exact ⟨_, q3, rfl⟩
            · rw [if_neg z9, if_neg (show ¬ (1 : Int) = 0 by decide)]
              refine ⟨_, q3, ?_⟩
              unfold s_X1_tables_b189
              rfl
        · rw [if_neg h9, trD_no h9]
          exact ⟨_, ⟨I2, rfl, k2, v2⟩, rfl⟩
    · rintro n μ ⟨I2, rfl, k2, v2⟩
      unfold s_X1_tables_l102_st
      dsimp only
      rw [w32_id (x := p) (by omega) (by omega), w32_id (by omega) (by omega), if_pos (by omega)]
      exact ⟨_, ⟨I2, rfl, k2, v2⟩, rfl⟩
  have lC : ∀ (a b : Nat) (n : Int) (μ : Me), (a : Int) < p → (b : Int) < p → XQ2 sh I J x p F a μ → ∃ μ', XQ2 sh I J x p F a μ' ∧ s_X1_tables_l73 x q1 q2 w n p a b 0 μ = some ((trB p F G w a b n).elim (fun n' => .inl (n', (b : Int) + 1, μ')) (fun e => .inr (.inr (e, μ')))) := by
    intro a b n μ ha hb2 hq
    unfold s_X1_tables_l73
    refine lp_loop (f := fun s : Int × Int × Me => s_X1_tables_l73_st x q1 q2 w s.1 p a b s.2.1 s.2.2) (trC p F G w a b) p.toNat (XQ2 sh I J x p F a) (fun e μ' => .inr (.inr (e, μ'))) (fun n' μ' => .inl (n', (b : Int) + 1, μ')) ?_ ?_ p.toNat 0 n μ (by omega) hq
    · rintro c n μ hc2 ⟨I2, rfl, k2, v2⟩
      have g2 := xS.q k2 hg h2.1 h2.2
      have hv := v2 c (by omega) (by omega)
      have hvb := emod_b hp (evP F.1 F.2 a c)
      unfold s_X1_tables_l73_st
      dsimp only
      rw [w32_id (x := p) (by omega) (by omega), w32_id (x := (c : Int)) (by omega) (by omega), if_neg (by omega), l_fs L, bsome, fs_a L (by omega) (by omega), bsome, hv, f_gR Q2, bsome, f_aI Q2 (by omega) (by omega), bsome, g2.2 0 (by omega) (by omega), w32_id (x := evP F.1 F.2 a c % p) (by omega) (by omega), w32_id (x := G.2 0 % p) (by omega) (by omega)]
      by_cases h9 : evP F.1 F.2 a c % p = G.2 0 % p
      · rw [if_pos h9]
        obtain ⟨μ', q', e'⟩ := lD a b c n _ ha hb2 (by omega) ⟨I2, rfl, k2, v2⟩
        exact ⟨μ', q', e'⟩
      · rw [if_neg h9, trC_no h9]
        exact ⟨_, ⟨I2, rfl, k2, v2⟩, rfl⟩
    · rintro n μ ⟨I2, rfl, k2, v2⟩
      unfold s_X1_tables_l73_st
      dsimp only
      rw [w32_id (x := p) (by omega) (by omega), w32_id (by omega) (by omega), if_pos (by omega)]
      exact ⟨_, ⟨I2, rfl, k2, v2⟩, rfl⟩
  have lB : ∀ (a : Nat) (n : Int) (μ : Me), (a : Int) < p → XQ2 sh I J x p F a μ → ∃ μ', XQ1 sh I J x μ' ∧ s_X1_tables_l63 x q1 q2 w n p a 0 μ = some ((trA p F G w a n).elim (fun n' => .inl (n', (a : Int) + 1, μ')) (fun e => .inr (e, μ'))) := by
    intro a n μ ha hq
    unfold s_X1_tables_l63
    obtain ⟨μ', ⟨I', z1, z2, z3⟩, e⟩ := lp_loop (f := fun s : Int × Int × Me => s_X1_tables_l63_st x q1 q2 w s.1 p a s.2.1 s.2.2) (trB p F G w a) p.toNat (XQ2 sh I J x p F a) (fun e μ' => .inr (e, μ')) (fun n' μ' => .inl (n', (a : Int) + 1, μ')) (by
      rintro b n μ hb2 hq
      obtain ⟨μ', q', e'⟩ := lC a b n μ ha (by omega) hq
      refine ⟨μ', q', ?_⟩
      unfold s_X1_tables_l63_st
      dsimp only
      rw [w32_id (x := p) (by omega) (by omega), w32_id (x := (b : Int)) (by omega) (by omega), if_neg (by omega)]
      exact e') (by
      rintro n μ hq
      refine ⟨μ, hq, ?_⟩
      unfold s_X1_tables_l63_st
      dsimp only
      rw [w32_id (x := p) (by omega) (by omega), w32_id (by omega) (by omega), if_pos (by omega)]) p.toNat 0 n μ (by omega) hq
    exact ⟨μ', ⟨I', z1, z2⟩, e⟩
  have lF : ∀ (a : Nat) (n : Int) (μ : Me), (a : Int) < p → XQ1 sh I J x μ → ∃ μ', XQ1 sh I J x μ' ∧ s_X1_tables_l28 x q1 q2 w n p a 0 μ = some ((trA p F G w a n).elim (fun n' => .inl (n', (a : Int) + 1, μ')) (fun e => .inr (e, μ'))) := by
    rintro a n μ ha ⟨I1, rfl, A1⟩
    unfold s_X1_tables_l28
    have hlp := whileO_for (f := fun s : Int × Me => s_X1_tables_l28_st x q1 q2 w n p a s.1 s.2) p.toNat
      (fun c s => ∃ I', s = ((c : Int), ((sh, I', J) : Me)) ∧ AF (xS x) I I' ∧ ∀ k : Int, 0 ≤ k → k < c → I' (x + 549) k = evP F.1 F.2 a k % p)
      (fun r => ∃ μ', XQ1 sh I J x μ' ∧ r = (trA p F G w a n).elim (fun n' => .inl (n', (a : Int) + 1, μ')) (fun e => .inr (e, μ'))) ?_ ?_ (0, (sh, I1, J)) ⟨I1, rfl, A1, fun k u v => by omega⟩
    · obtain ⟨r, hr, μ', hr2, hr3⟩ := hlp
      exact ⟨μ', hr2, by rw [hr, hr3]⟩
    · rintro c s hc2 ⟨I2, rfl, k2, v2⟩
      have hI2 : I2 (x + 5 + 1) 0 = p := by rw [xS.f k2]; exact hI
      have r2 := xS.q k2 hc h1.1 h1.2
      have eA := x6_at (J := J) D hI2 hp (a : Int) (c : Int) Q1 (n := F.1) (by omega) r2
      rw [emod_id p (a := (a : Int)) ⟨by omega, ha⟩, emod_id p (a := (c : Int)) ⟨by omega, by omega⟩] at eA
      obtain ⟨g, hg9⟩ : ∃ g, upz (I2 (x + 549)) c (evP F.1 F.2 a c % p) = g := ⟨_, rfl⟩
      refine ⟨((c : Int) + 1, (sh, up1 I2 (x + 549) g, J)), ?_, up1 I2 (x + 549) g, by simp, k2.trans (AF.one (by unfold xS; omega)), fun k u v => ?_⟩
      · unfold s_X1_tables_l28_st
        dsimp only
        rw [w32_id (x := p) (by omega) (by omega), w32_id (x := (c : Int)) (by omega) (by omega), if_neg (by omega), l_fs L, bsome, l_dk L, bsome, d_ck D, bsome, eA, bsome]
        dsimp only
        rw [fs_u L (by omega) (by omega), bsome, hg9]
      · rw [up1_s, ← hg9]
        by_cases e : k = c
        · rw [e, upz_s]
        · rw [upz_n _ _ e]
          exact v2 k u (by omega)
    · rintro s ⟨I2, rfl, k2, v2⟩
      obtain ⟨μ', q', e'⟩ := lB a n (sh, I2, J) ha ⟨I2, rfl, k2, fun c u v => v2 c u (by omega)⟩
      unfold s_X1_tables_l28_st
      dsimp only
      rw [w32_id (x := p) (by omega) (by omega), w32_id (by omega) (by omega), if_pos (by omega), e']
      exact ⟨_, rfl, μ', q', rfl⟩
  unfold s_X1_tables_l18
  obtain ⟨μ', ⟨I', z1, z2⟩, e⟩ := lp_loop (f := fun s : Int × Int × Me => s_X1_tables_l18_st x q1 q2 w s.1 p s.2.1 s.2.2) (trA p F G w) p.toNat (XQ1 sh I J x) (fun e μ' => (e, μ')) (fun n' μ' => (if w = 0 then n' else -1, μ')) (by
    rintro a n μ ha hq
    obtain ⟨μ', q', e'⟩ := lF a n μ (by omega) hq
    refine ⟨μ', q', ?_⟩
    unfold s_X1_tables_l18_st
    dsimp only
    rw [w32_id (x := p) (by omega) (by omega), w32_id (x := (a : Int)) (by omega) (by omega), if_neg (by omega)]
    exact e') (by
    rintro n μ hq
    refine ⟨μ, hq, ?_⟩
    unfold s_X1_tables_l18_st s_X1_tables_b237
    dsimp only
    rw [w32_id (x := p) (by omega) (by omega), w32_id (by omega) (by omega), if_pos (by omega)]
    rcases hw with rfl | rfl
    · rfl
    · rfl) p.toNat 0 0 (sh, I, J) (by omega) ⟨I, rfl, AF.refl⟩
  refine ⟨I', ?_, z2⟩
  rw [z1] at e
  have e9 : ((0 : Nat) : Int) = 0 := rfl
  rw [e9] at e
  rw [e]
  unfold triP
  cases lpS (trA p F G w) p.toNat 0 0 <;> rfl
end CT
