/-! the component: how many rows are independent -/
set_option maxRecDepth 100000
/-- the rows hold M modulo p -/
def RO (I : Nat → Int → Int) (x : Nat) (p : Int) (π : Nat → Nat) (M : Nat → Int → Int) (m L : Nat) : Prop := ∀ r : Nat, r < m → ∀ j : Nat, j < L → I (x + 516 + π r) j = M r j % p
def rwS (x a : Nat) : Prop := x + 516 ≤ a ∧ a ≤ x + 523
section CIn
variable {sh : Sh} {I J : Nat → Int → Int} {x : Nat} {p : Int} {W : Int → Int}
theorem l_rw (L : CL sh x) : gR (sh, I, J) 0 x 9 = some (x + 515) := gR_m L.t L.rw.1
theorem rw_r (L : CL sh x) {π : Nat → Nat} (hπ : RP2 sh x π) {k : Nat} (h : k < 8) : aR (sh, I, J) 105 (x + 515) k = some (x + 516 + π k) := aR_m L.rw.2.1 (by omega) (by omega) (hπ.1 k h).2
theorem rw_a (L : CL sh x) {π : Nat → Nat} (hπ : RP2 sh x π) {k : Nat} (h : k < 8) {j : Int} (h0 : 0 ≤ j) (h1 : j < 492) : aI (sh, I, J) 101 (x + 516 + π k) j = some (I (x + 516 + π k) j) := aI_m (L.rw.2.2 _ (hπ.1 k h).1) h0 h1
theorem rw_u (L : CL sh x) {π : Nat → Nat} (hπ : RP2 sh x π) {k : Nat} (h : k < 8) {j v : Int} (h0 : 0 ≤ j) (h1 : j < 492) : uI (sh, I, J) (x + 516 + π k) j v = some (sh, up1 I (x + 516 + π k) (upz (I (x + 516 + π k)) j v), J) := uI_m (L.rw.2.2 _ (hπ.1 k h).1) h0 h1
/-- times a row is taken off another one -/
theorem x1_l142 (L : CL sh x) (hI : I (x + 5 + 1) 0 = p) (hp : Pp p) {π : Nat → Nat} (hπ : RP2 sh x π) {m Lw n c r k : Nat} {by_ : Int} {t : Int} {R Wk : Int → Int} (hL : Lw ≤ 492) (hc : c < Lw) (hr : r < 8) (hk : k < 8) (hne : k ≠ r) (ht : 0 ≤ t ∧ t < p) (h1 : ∀ j : Nat, j < Lw → I (x + 516 + π r) j = R j % p) (h2 : ∀ j : Nat, j < Lw → I (x + 516 + π k) j = Wk j % p) :
    ∃ I', s_X1_independent_l142 x m Lw n c (x + 516 + π r) by_ k t c (sh, I, J) = some (.inl ((k : Int) + 1, (sh, I', J))) ∧ (∀ j : Nat, j < Lw → I' (x + 516 + π k) j = (if c ≤ j then Wk j - t * R j else Wk j) % p) ∧ AF (fun a => a = x + 516 + π k) I I' := by
  have D := L.dl
  have hb := hp.b
  have z0 : w32 0 = 0 := rfl
  have tm : t % p = t := emod_id p ht
  have npi : x + 516 + π r ≠ x + 516 + π k := fun e => hne ((hπ.2 r k hr hk (by omega)).symm)
  have b1 := (hπ.1 r hr).1
  have b2 := (hπ.1 k hk).1
  by_cases h0 : t = 0
  · refine ⟨I, ?_, fun j hj => ?_, AF.refl⟩
    · rw [e_X1_independent_l142]
      unfold s_X1_independent_l142_st
      rw [w32_id (x := (Lw : Int)) (by omega) (by omega), w32_id (x := (c : Int)) (by omega) (by omega), if_neg (by omega), h0, if_pos z0]
      rfl
    · rw [h2 j hj, h0, Int.zero_mul, Int.sub_zero, if_same]
  have key : ∀ (q i : Nat) (I1 : Nat → Int → Int), i + q = Lw → c ≤ i → (∀ j : Nat, j < Lw → I1 (x + 516 + π k) j = (if c ≤ j ∧ j < i then Wk j - t * R j else Wk j) % p) → AF (fun a => a = x + 516 + π k) I I1 →
      ∃ I', s_X1_independent_l142 x m Lw n c (x + 516 + π r) by_ k t i (sh, I1, J) = some (.inl ((k : Int) + 1, (sh, I', J))) ∧ (∀ j : Nat, j < Lw → I' (x + 516 + π k) j = (if c ≤ j then Wk j - t * R j else Wk j) % p) ∧ AF (fun a => a = x + 516 + π k) I I' := by
    intro q
    induction q with
    | zero =>
      intro i I1 hi hci a1 a2
      refine ⟨I1, ?_, fun j hj => ?_, a2⟩
      · rw [e_X1_independent_l142]
        unfold s_X1_independent_l142_st
        rw [w32_id (x := (Lw : Int)) (by omega) (by omega), w32_id (x := (i : Int)) (by omega) (by omega), if_pos (by omega)]
        rfl
      · rw [a1 j hj]
        by_cases e : c ≤ j
        · rw [if_pos e, if_pos ⟨e, by omega⟩]
        · rw [if_neg e, if_neg (fun g => e g.1)]
    | succ q ih =>
      intro i I1 hi hci a1 a2
      have hI1 : I1 (x + 5 + 1) 0 = p := by rw [a2 _ (by omega)]; exact hI
      have c1 := a1 i (by omega)
      rw [if_neg (by omega)] at c1
      have c2 : I1 (x + 516 + π r) i = R i % p := by rw [a2 _ npi]; exact h1 i (by omega)
      have e3 := x7_dif (J := J) D.ff hI1 hp (Wk i) t (R i)
      rw [tm] at e3
      obtain ⟨I2, hI2⟩ : ∃ I2, up1 I1 (x + 516 + π k) (upz (I1 (x + 516 + π k)) i ((Wk i - t * R i) % p)) = I2 := ⟨_, rfl⟩
      obtain ⟨I', z1, z2, z3⟩ := ih (i + 1) I2 (by omega) (by omega) (fun j hj => by
        rw [← hI2, up1_s]
        by_cases e : j = i
        · rw [e, upz_s, if_pos (by omega)]
        · rw [upz_n _ _ (by omega), a1 j hj]
          by_cases g : c ≤ j ∧ j < i
          · rw [if_pos g, if_pos (by omega)]
          · rw [if_neg g, if_neg (by omega)]) (a2.trans (by rw [← hI2]; exact AF.one rfl))
      refine ⟨I', ?_, z2, z3⟩
      rw [← z1, e_X1_independent_l142]
      unfold s_X1_independent_l142_st
      rw [w32_id (x := (Lw : Int)) (by omega) (by omega), w32_id (x := (i : Int)) (by omega) (by omega), if_neg (by omega), w32_id (x := t) (by omega) (by omega), if_neg h0, l_rw L, bsome, rw_r L hπ hk, bsome, l_dk L, bsome, d_f D, bsome, bsome, rw_r L hπ hk, bsome, rw_a L hπ hk (by omega) (by omega), bsome, rw_a L hπ hr (by omega) (by omega), bsome, d_ckf D, bsome, c1, c2]
      rw [w32_id (x := t) (by omega) (by omega)] at e3
      rw [e3, bsome]
      dsimp only
      rw [rw_u L hπ hk (by omega) (by omega), bsome, hI2]
      rfl
  exact key (Lw - c) c I (by omega) (Nat.le_refl _) (fun j hj => by rw [if_neg (by omega)]; exact h2 j hj) AF.refl
/-- a row is taken off all rows behind it -/
theorem x1_l105 (L : CL sh x) (hp : Pp p) {π : Nat → Nat} (hπ : RP2 sh x π) {m Lw n c : Nat} {iv : Int} {R : Int → Int} {V : Nat → Int → Int} (hm : m ≤ 8) (hL : Lw ≤ 492) (hc : c < Lw) (hn : n < m) (hiv : iv % p = iv ∧ 0 ≤ iv ∧ iv < p) :
    ∀ (q k : Nat) (I : Nat → Int → Int), k + q = m → n < k → I (x + 5 + 1) 0 = p → (∀ j : Nat, j < Lw → I (x + 516 + π n) j = R j % p) → (∀ i : Nat, i < m → ∀ j : Nat, j < Lw → I (x + 516 + π i) j = (if n < i ∧ i < k then (if c ≤ j then V i j - (V i c * iv % p) * R j else V i j) else V i j) % p) →
      ∃ I', s_X1_independent_l105 x m Lw n c (x + 516 + π n) iv k (sh, I, J) = some (.inl ((n : Int) + 1, (c : Int) + 1, (sh, I', J))) ∧ (∀ i : Nat, i < m → ∀ j : Nat, j < Lw → I' (x + 516 + π i) j = (if n < i then (if c ≤ j then V i j - (V i c * iv % p) * R j else V i j) else V i j) % p) ∧ AF (rwS x) I I'
  | 0, k, I, hk, hnk, hI, hR, hV => by
    refine ⟨I, ?_, fun i hi j hj => ?_, AF.refl⟩
    · rw [e_X1_independent_l105]
      unfold s_X1_independent_l105_st
      rw [w32_id (x := (m : Int)) (by omega) (by omega), w32_id (x := (k : Int)) (by omega) (by omega), if_pos (by omega)]
      rfl
    · rw [hV i hi j hj]
      by_cases e : n < i
      · rw [if_pos e, if_pos (by omega)]
      · rw [if_neg e, if_neg (by omega)]
  | q + 1, k, I, hk, hnk, hI, hR, hV => by
    have D := L.dl
    have hb := hp.b
    have c1 := hV k (by omega) c hc
    rw [if_neg (by omega)] at c1
    have e3 := x7_mul (J := J) D.ff hI hp (V k c) iv
    rw [hiv.1] at e3
    have tb := emod_b hp (V k c * iv)
    obtain ⟨I1, e1, r1, f1⟩ := x1_l142 (J := J) (m := m) (n := n) (by_ := iv) (t := V k c * iv % p) (R := R) (Wk := V k) L hI hp hπ hL hc (show n < 8 by omega) (show k < 8 by omega) (by omega) tb hR (fun j hj => by
      have := hV k (by omega) j hj
      rw [if_neg (by omega)] at this
      exact this)
    have ne : ∀ i, i < m → i ≠ k → x + 516 + π i ≠ x + 516 + π k := fun i hi hne e => hne (hπ.2 i k (by omega) (by omega) (by omega))
    have bk := (hπ.1 k (by omega)).1
    obtain ⟨I2, e2, r2, f2⟩ := x1_l105 L hp hπ (R := R) (V := V) hm hL hc hn hiv q (k + 1) I1 (by omega) (by omega) (by rw [f1 _ (by omega)]; exact hI) (fun j hj => by
      rw [f1 _ (ne n (by omega) (by omega))]
      exact hR j hj) (fun i hi j hj => by
      by_cases e : i = k
      · rw [e, r1 j hj, if_pos (show n < k ∧ k < k + 1 by omega)]
      · rw [f1 _ (ne i hi e), hV i hi j hj]
        by_cases g : n < i ∧ i < k
        · rw [if_pos g, if_pos (show n < i ∧ i < k + 1 by omega)]
        · rw [if_neg g, if_neg (show ¬(n < i ∧ i < k + 1) by omega)])
    refine ⟨I2, ?_, r2, (f1.mono (fun a ha => by unfold rwS; omega)).trans f2⟩
    rw [e_X1_independent_l105]
    unfold s_X1_independent_l105_st
    rw [w32_id (x := (m : Int)) (by omega) (by omega), w32_id (x := (k : Int)) (by omega) (by omega), if_neg (by omega), l_dk L, bsome, d_f D, bsome, l_rw L, bsome, rw_r L hπ (by omega), bsome, rw_a L hπ (by omega) (by omega) (by omega), bsome, d_ckf D, bsome, c1, e3, bsome]
    dsimp only
    rw [e1, bsome]
    exact e2
def shU (sh : Sh) (x : Nat) (g : Int → Option Nat) : Sh := (sh.1, sh.2.1, sh.2.2.1, up1 sh.2.2.2 (x + 515) g)
theorem rw_set (L : CL sh x) {k v : Nat} (hk : k < 8) (hv : sh.2.1 v = 101) : uR (sh, I, J) 105 101 (x + 515) k v = some (shU sh x (upz (sh.2.2.2 (x + 515)) k (some v)), I, J) := by
  have hA := L.rw.2.1
  unfold uR
  rw [w32_id (x := (k : Int)) (by omega) (by omega)]
  exact if_pos ⟨hv, hA.1, by omega, by show (k : Int) < sh.2.2.1 (x + 515); rw [hA.2.1]; omega⟩
theorem shU_sx (g : Int → Option Nat) : SX x sh (shU sh x g) := ⟨rfl, rfl, rfl, fun a ha => up1_n _ _ ha⟩
/-- a lead is found: the rows change places, the others are cleared -/
theorem x1_b44 (L : CL sh x) (hI : I (x + 5 + 1) 0 = p) (hp : Pp p) {π : Nat → Nat} (hπ : RP2 sh x π) {m Lw n c r : Nat} {v M : Nat → Int → Int} (hm : m ≤ 8) (hL : Lw ≤ 492) (hc : c < Lw) (hr : n ≤ r ∧ r < m) (hM : RO I x p π M m Lw) (hl : M r c % p ≠ 0) (hC : cpB p Lw m v M n c) :
    ∃ sh' I' π' M', s_X1_independent_b44 x m Lw n c r (sh, I, J) = some (.inl ((n : Int) + 1, (c : Int) + 1, (sh', I', J))) ∧ SX x sh sh' ∧ RP2 sh' x π' ∧ RO I' x p π' M' m Lw ∧ cpB p Lw m v M' (n + 1) (c + 1) ∧ AF (rwS x) I I' := by
  have hb := hp.b
  have D := L.dl
  have tn := (L.rw.2.2 _ (hπ.1 n (by omega)).1).1
  have tr := (L.rw.2.2 _ (hπ.1 r (by omega)).1).1
  -- the two writes
  obtain ⟨sh1, h1⟩ : ∃ sh1, shU sh x (upz (sh.2.2.2 (x + 515)) r (some (x + 516 + π n))) = sh1 := ⟨_, rfl⟩
  have e1 := rw_set (I := I) (J := J) L (k := r) (v := x + 516 + π n) (by omega) tn
  rw [h1] at e1
  have sx1 : SX x sh sh1 := by rw [← h1]; exact shU_sx _
  have ref1 : sh1.2.2.2 (x + 515) = upz (sh.2.2.2 (x + 515)) r (some (x + 516 + π n)) := by rw [← h1]; exact up1_s _ _ _
  have g1 : gR (sh1, I, J) 0 x 9 = some (x + 515) := gR_m (by rw [sx1.2.1]; exact L.t) (by rw [sx1.2.2.2 x (by omega)]; exact L.rw.1)
  obtain ⟨sh2, h2⟩ : ∃ sh2, shU sh1 x (upz (sh1.2.2.2 (x + 515)) n (some (x + 516 + π r))) = sh2 := ⟨_, rfl⟩
  have e2 : uR (sh1, I, J) 105 101 (x + 515) n (x + 516 + π r) = some (sh2, I, J) := by
    have hA := L.rw.2.1
    unfold uR
    rw [w32_id (x := (n : Int)) (by omega) (by omega), ← h2]
    exact if_pos ⟨by show sh1.2.1 _ = _; rw [sx1.2.1]; exact tr, by show sh1.2.1 _ = _; rw [sx1.2.1]; exact hA.1, by omega, by show (n : Int) < sh1.2.2.1 (x + 515); rw [sx1.2.2.1, hA.2.1]; omega⟩
  have sx2 : SX x sh1 sh2 := by rw [← h2]; exact shU_sx _
  have ref2 : sh2.2.2.2 (x + 515) = upz (upz (sh.2.2.2 (x + 515)) r (some (x + 516 + π n))) n (some (x + 516 + π r)) := by
    rw [← h2]
    show up1 sh1.2.2.2 (x + 515) _ (x + 515) = _
    rw [up1_s, ref1]
  have sx := sx1.trans sx2
  obtain ⟨π', hπ'e⟩ : ∃ π' : Nat → Nat, π' = fun k => if k = n then π r else if k = r then π n else π k := ⟨_, rfl⟩
  have pe : ∀ k, π' k = if k = n then π r else if k = r then π n else π k := fun k => by rw [hπ'e]
  have hπ' : RP2 sh2 x π' := by
    refine ⟨fun k hk => ?_, fun i j hi hj e => ?_⟩
    · rw [ref2, pe]
      by_cases a : k = n
      · rw [if_pos a, a, upz_s]
        exact ⟨(hπ.1 r (by omega)).1, rfl⟩
      · rw [if_neg a, upz_n _ _ (by omega)]
        by_cases b : k = r
        · rw [if_pos b, b, upz_s]
          exact ⟨(hπ.1 n (by omega)).1, rfl⟩
        · rw [if_neg b, upz_n _ _ (by omega)]
          exact hπ.1 k hk
    · rw [pe, pe] at e
      have inj := hπ.2
      have i1 := inj i j hi hj
      have i2 := inj r j (by omega) hj
      have i3 := inj n j (by omega) hj
      have i4 := inj i r hi (by omega)
      have i5 := inj i n hi (by omega)
      have i6 := inj n r (by omega) (by omega)
      have i7 := inj r n (by omega) (by omega)
      split at e <;> split at e <;> (try split at e) <;> (try split at e) <;> omega
  have L2 : CL sh2 x := L.sx sx ⟨π', hπ'⟩
  have D2 := L2.dl
  -- what the rows hold now
  have rows : ∀ i : Nat, i < m → ∀ j : Nat, j < Lw → I (x + 516 + π' i) j = swp M n r i j % p := by
    intro i hi j hj
    rw [pe]
    unfold swp
    by_cases a : i = n
    · rw [if_pos a, if_pos a]
      exact hM r hr.2 j hj
    · rw [if_neg a, if_neg a]
      by_cases b : i = r
      · rw [if_pos b, if_pos b]
        exact hM n (by omega) j hj
      · rw [if_neg b, if_neg b]
        exact hM i hi j hj
  have pn : π' n = π r := by rw [pe, if_pos rfl]
  have hRn : ∀ j : Nat, j < Lw → I (x + 516 + π' n) j = M r j % p := fun j hj => by rw [pn]; exact hM r hr.2 j hj
  have ei := x7_inverse (J := J) D2.ff hI hp (M r c)
  obtain ⟨iv, hiv⟩ : ∃ iv, ivS p (M r c % p) = iv := ⟨_, rfl⟩
  have ivb : 0 ≤ iv ∧ iv < p := by rw [← hiv]; exact emod_b hp _
  have ivm : iv % p = iv := emod_id p ivb
  rw [hiv] at ei
  obtain ⟨I3, e3, r3, f3⟩ := x1_l105 (J := J) L2 hp hπ' (R := M r) (V := swp M n r) (m := m) (Lw := Lw) (n := n) (c := c) hm hL hc (by omega) ⟨ivm, ivb⟩ (m - (n + 1)) (n + 1) I (by omega) (by omega) hI hRn (fun i hi j hj => by rw [if_neg (by omega)]; exact rows i hi j hj)
  refine ⟨sh2, I3, π', fun i j => if n < i then (if (c : Int) ≤ j then swp M n r i j - (swp M n r i c * iv % p) * M r j else swp M n r i j) else swp M n r i j, ?_, sx, hπ', fun i hi j hj => ?_, hC.step hp hc hr hl (fun k hk j hj => ?_), f3⟩
  · unfold s_X1_independent_b44
    rw [w32_id (x := (r : Int)) (by omega) (by omega), w32_id (x := (m : Int)) (by omega) (by omega), if_neg (by omega), l_rw L, bsome, rw_r L hπ (by omega), bsome, bsome, bsome, rw_r L hπ (by omega), bsome, e1, bsome, g1, bsome, e2, bsome, l_dk L2, bsome, d_f D2, bsome]
    have ea := rw_a (I := I) (J := J) L2 hπ' (k := n) (by omega) (j := c) (by omega) (by omega)
    rw [hRn c hc, pn] at ea
    rw [ea, bsome, d_ckf D2, bsome, ei, bsome]
    dsimp only
    rw [pn] at e3
    exact e3
  · rw [r3 i hi j hj]
    dsimp only
    by_cases a : n < i
    · rw [if_pos a, if_pos a]
      by_cases b : c ≤ j
      · rw [if_pos b, if_pos (show (c : Int) ≤ j by omega)]
      · rw [if_neg b, if_neg (show ¬ (c : Int) ≤ j by omega)]
    · rw [if_neg a, if_neg a]
  · rw [hiv]
    by_cases a : n < k
    · rw [if_pos a, if_neg (show ¬ k ≤ n by omega)]
      have e9 : (swp M n r k j - (swp M n r k c * iv % p) * M r j) % p = (swp M n r k j - swp M n r k c * iv * M r j) % p := by
        rw [Int.sub_emod, emod_mul_l, ← Int.sub_emod]
      by_cases b : (c : Int) ≤ j
      · rw [if_pos b, e9]
      · rw [if_neg b, Int.sub_emod, ← emod_mul_r, hC.2.2.1 r hr.1 hr.2 j (by omega), Int.mul_zero, Int.zero_emod, Int.sub_zero, emod_emod_]
    · rw [if_neg a, if_pos (show k ≤ n by omega)]
theorem x1_independent (L : CL sh x) (hI : I (x + 5 + 1) 0 = p) (hp : Pp p) {π : Nat → Nat} (hπ : RP2 sh x π) {m Lw : Nat} {v : Nat → Int → Int} (hm : m ≤ 8) (hL : Lw ≤ 492) (hv : RO I x p π v m Lw) :
    ∃ (sh' : Sh) (I' : Nat → Int → Int) (n : Nat), s_X1_independent x m Lw (sh, I, J) = some ((n : Int), (sh', I', J)) ∧ Rkk p Lw m v n ∧ n ≤ m ∧ SX x sh sh' ∧ (∃ π', RP2 sh' x π') ∧ AF (rwS x) I I' := by
  have key : ∀ (q n c : Nat) (sh : Sh) (I : Nat → Int → Int) (π : Nat → Nat) (M : Nat → Int → Int), CL sh x → I (x + 5 + 1) 0 = p → RP2 sh x π → RO I x p π M m Lw → cpB p Lw m v M n c → c + q = Lw →
      ∃ (sh' : Sh) (I' : Nat → Int → Int) (n' : Nat), s_X1_independent_l5 x m Lw n c (sh, I, J) = some ((n' : Int), (sh', I', J)) ∧ Rkk p Lw m v n' ∧ n' ≤ m ∧ SX x sh sh' ∧ (∃ π', RP2 sh' x π') ∧ AF (rwS x) I I' := by
    intro q
    induction q with
    | zero =>
      intro n c sh I π M L hI hπ hM hC hc
      refine ⟨sh, I, n, ?_, hC.end (Or.inl (by omega)), hC.1.1, SX.refl, ⟨π, hπ⟩, AF.refl⟩
      rw [e_X1_independent_l5]
      unfold s_X1_independent_l5_st
      rw [w32_id (x := (Lw : Int)) (by omega) (by omega), w32_id (x := (c : Int)) (by omega) (by omega), if_pos (by omega)]
      rfl
    | succ q ih =>
      intro n c sh I π M L hI hπ hM hC hc
      have hn := hC.1.1
      by_cases hnm : n = m
      · refine ⟨sh, I, n, ?_, hC.end (Or.inr hnm), hC.1.1, SX.refl, ⟨π, hπ⟩, AF.refl⟩
        rw [e_X1_independent_l5]
        unfold s_X1_independent_l5_st
        rw [w32_id (x := (Lw : Int)) (by omega) (by omega), w32_id (x := (c : Int)) (by omega) (by omega), if_neg (by omega), w32_id (x := (m : Int)) (by omega) (by omega), w32_id (x := (n : Int)) (by omega) (by omega), if_pos (by omega)]
        rfl
      -- the first row with a number there
      have find : ∀ (s r : Nat), r + s = m → n ≤ r → (∀ k, n ≤ k → k < r → M k c % p = 0) → ∃ r', n ≤ r' ∧ r' ≤ m ∧ (∀ k, n ≤ k → k < r' → M k c % p = 0) ∧ (r' < m → M r' c % p ≠ 0) ∧ s_X1_independent_l19 x m Lw n c r (sh, I, J) = s_X1_independent_b44 x m Lw n c r' (sh, I, J) := by
        intro s
        induction s with
        | zero =>
          intro r hr hnr hz
          refine ⟨r, hnr, by omega, hz, fun h => by omega, ?_⟩
          rw [e_X1_independent_l19]
          unfold s_X1_independent_l19_st
          rw [w32_id (x := (m : Int)) (by omega) (by omega), w32_id (x := (r : Int)) (by omega) (by omega), if_pos (by omega)]
          cases s_X1_independent_b44 x m Lw n c r (sh, I, J) <;> rfl
        | succ s ihs =>
          intro r hr hnr hz
          have e1 := hM r (by omega) c (by omega)
          have hb := emod_b hp (M r c)
          have hpb := hp.b
          have st : s_X1_independent_l19 x m Lw n c r (sh, I, J) = (if M r c % p = 0 then s_X1_independent_l19 x m Lw n c ((r + 1 : Nat) : Int) (sh, I, J) else s_X1_independent_b44 x m Lw n c r (sh, I, J)) := by
            rw [e_X1_independent_l19]
            unfold s_X1_independent_l19_st
            rw [w32_id (x := (m : Int)) (by omega) (by omega), w32_id (x := (r : Int)) (by omega) (by omega), if_neg (by omega), l_rw L, bsome, rw_r L hπ (by omega), bsome, rw_a L hπ (by omega) (by omega) (by omega), bsome, e1, w32_id (x := M r c % p) (by omega) (by omega)]
            by_cases h : M r c % p = 0
            · rw [if_pos h, if_pos h]
              rfl
            · rw [if_neg h, if_neg h]
              cases s_X1_independent_b44 x m Lw n c r (sh, I, J) <;> rfl
          rw [st]
          by_cases h : M r c % p = 0
          · rw [if_pos h]
            exact ihs (r + 1) (by omega) (by omega) (fun k hk hkr => by
              by_cases e : k = r
              · rw [e]; exact h
              · exact hz k hk (by omega))
          · rw [if_neg h]
            exact ⟨r, hnr, by omega, hz, fun _ => h, rfl⟩
      obtain ⟨r, hr1, hr2, hz, hl, er⟩ := find (m - n) n (by omega) (Nat.le_refl _) (fun k a b => by omega)
      have st : s_X1_independent_l5 x m Lw n c (sh, I, J) = (s_X1_independent_b44 x m Lw n c r (sh, I, J)).bind fun z => z.elim (fun s : Int × Int × Me => s_X1_independent_l5 x m Lw s.1 s.2.1 s.2.2) some := by
        rw [e_X1_independent_l5]
        unfold s_X1_independent_l5_st
        rw [w32_id (x := (Lw : Int)) (by omega) (by omega), w32_id (x := (c : Int)) (by omega) (by omega), if_neg (by omega), w32_id (x := (m : Int)) (by omega) (by omega), w32_id (x := (n : Int)) (by omega) (by omega), if_neg (by omega), er]
      by_cases hrm : r < m
      · obtain ⟨sh1, I1, π1, M1, e1, s1, p1, m1, c1, f1⟩ := x1_b44 (J := J) L hI hp hπ hm hL (by omega) ⟨hr1, hrm⟩ hM (hl hrm) hC
        obtain ⟨sh2, I2, n2, e2, k2, l2, s2, p2, f2⟩ := ih (n + 1) (c + 1) sh1 I1 π1 M1 (L.sx s1 ⟨π1, p1⟩) (by rw [f1 _ (by unfold rwS; omega)]; exact hI) p1 m1 c1 (by omega)
        refine ⟨sh2, I2, n2, ?_, k2, l2, s1.trans s2, p2, f1.trans f2⟩
        rw [st, e1]
        exact e2
      · obtain ⟨sh2, I2, n2, e2, k2, l2, s2, p2, f2⟩ := ih n (c + 1) sh I π M L hI hπ hM (hC.skip (by omega) (fun k a b => hz k a (by omega))) (by omega)
        refine ⟨sh2, I2, n2, ?_, k2, l2, s2, p2, f2⟩
        rw [st]
        unfold s_X1_independent_b44
        rw [w32_id (x := (r : Int)) (by omega) (by omega), w32_id (x := (m : Int)) (by omega) (by omega), if_pos (by omega)]
        exact e2
  exact key Lw 0 0 sh I π v L hI hπ hv ⟨⟨Nat.zero_le _, Nat.zero_le _⟩, ⟨fun _ => 0, fun i hi => by omega, fun i k _ hk => by omega⟩, fun k _ _ j hj => by omega, fun V _ => Iff.rfl⟩ (by omega)
end CIn
