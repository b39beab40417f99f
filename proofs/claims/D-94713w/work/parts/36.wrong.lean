/-! LetterForms$Wrong's constructor: RuntimeException, Exception, Throwable (no trace, no suppression) -/
set_option maxRecDepth 100000
def pN (μ : Me) (c a : Nat) (k : Int) (o : Option Nat) : Option Me := if μ.1.2.1 a = c then some (sR μ a (upz (μ.1.2.2.2 a) k o)) else none
theorem pN_ok {μ μ1 : Me} {c a k0 : Nat} {o : Option Nat} (ht : zkR (zty c k0) = true) (h : pN μ c a k0 o = some μ1) : fPut μ μ1 c a k0 (va_rf o) := by
  obtain ⟨h1, h2⟩ := ib_ h
  subst h2
  refine ⟨h1, fun j => ?_, ⟨rfl, rfl, rfl⟩, fun q hq => ⟨up1_n _ _ hq, rfl, rfl⟩⟩
  by_cases e : j = k0
  · subst e
    rw [if_pos rfl]
    unfold fV sR
    cases e2 : zty c j <;> first | (rw [e2] at ht; cases ht; done) | simp [up1, upz]
  · rw [if_neg e]
    unfold fV sR
    have e3 : ¬ (j : Int) = (k0 : Int) := by omega
    cases e2 : zty c j <;> simp [up1, upz, e3, e]
theorem nfN {c k0 : Nat} {o : Option Nat} (ht : zkR (zty c k0) = true) : narrow (zty c k0) (va_rf o) = va_rf o ∧ fits (zty c k0) (va_rf o) = true := by
  cases e2 : zty c k0 <;> first | (rw [e2] at ht; cases ht; done) | (cases o <;> exact ⟨rfl, rfl⟩)
section WN
variable {Z : Zt} {Q : State → Prop} {μ μ1 : Me} {pc : Nat} {L : List (Nat × Value)} {st : List Value} {y : MethodName} {cc : ByteArray} {ret : Option FieldType} {lv nl : Nat}
theorem r_null (C : CX Z y cc ret lv nl) (d : decode cc pc = .ok (.aconst_null, 1)) (k : WL Z Q μ (pc + 1) L (.null :: st)) : WL Z Q μ pc L st := by
  intro H locs ls hR hS hl
  exact lv_null C.ex C.by_ d (k H locs ls hR hS hl)
theorem r_aload_nN (C : CX Z y cc ret lv nl) (k0 : Nat) {i : Nat} {k1 : Fin 4} (d : decode cc pc = .ok (.aload_n k1, 1)) (hi : (k1 : Nat) = i) (hL : L[k0]? = some (i, .null)) (k : WL Z Q μ (pc + 1) L (.null :: st)) : WL Z Q μ pc L st := by
  intro H locs ls hR hS hl
  exact lv_aload_nN C.ex C.by_ d hi (lv_at hl k0 hL) (k H locs ls hR hS hl)
theorem r_putN (C : CX Z y cc ret lv nl) {c idx a : Nat} {r : vw_C} {o : Option Nat} {x : Value} (hx : va_rf o = x) (hc : zCl[c]? = some r) (k0 : Nat) (hk : k0 < r.2.2) (ht : zkR (zty c k0) = true) (hf : (r.2.1 k0).2.2.2 = false) (h : pN μ c a k0 o = some μ1) (q : (Cond.fieldLink y.cls idx (r.2.1 k0).1 (r.2.1 k0).2.1 (r.2.1 k0).2.2.1) ∈ lw_all) (d : decode cc pc = .ok (.putfield idx, 3)) (k : WL Z Q μ1 (pc + 3) L st) : WL Z Q μ pc L (x :: vO a :: st) := by
  subst hx
  intro H locs ls hR hS hl
  exact putC C hR hS hc k0 hk (pN_ok ht h) (nfN ht) hf (C.hts _ q) d (fun H1 locs1 hR1 hS1 => k H1 locs1 ls hR1 hS1 hl)
/-- a static whose value is null or some reference -/
theorem r_getsQ (C : CX Z y cc ret lv nl) {D n d9 : String} {idx : Nat} (hq : va_Zq D n d9 (fun q => Z.2.2.2.2.2.2.2.2.2.2.2.1 ≤ q) Z.2.2.2.2.1 Z.2.2.2.2.1.heap) (q : Cond.fieldLink y.cls idx D n d9 ∈ lw_all) (d : decode cc pc = .ok (.getstatic idx, 3))
    (k : ∀ o : Option Nat, WL Z Q μ (pc + 3) L (va_rf o :: st)) : WL Z Q μ pc L st := by
  intro H locs ls hR hS hl
  rcases hq with h | ⟨t, h⟩
  · exact va_gets C.ex C.by_ h hS.1 C.own (C.hts _ q) (fun x h => h) d (k none H locs ls hR hS hl)
  · exact va_gets C.ex C.by_ h hS.1 C.own (C.hts _ q) (fun x h => h) d (k (some t) H locs ls hR hS hl)
end WN
def wr4 (f : Int → Option Nat) : Int → Option Nat := fun j => if j = 0 ∨ j = 1 ∨ j = 2 ∨ j = 3 then none else f j
def s_X5_init (a0 : Nat) (μ : Me) : Option Me := if μ.1.2.1 a0 = 3 then some (sR μ a0 (wr4 (μ.1.2.2.2 a0))) else none
theorem sR_sR (μ : Me) (a : Nat) (f g : Int → Option Nat) : sR (sR μ a f) a g = sR μ a g := by
  unfold sR
  congr 4
  funext q
  unfold up1
  dsimp only
  split <;> rfl
theorem sR_rf (μ : Me) (a : Nat) (f : Int → Option Nat) : (sR μ a f).1.2.2.2 a = f := by
  unfold sR up1
  simp
theorem w_J0_init_2 {Z : Zt} {fin : Me} {w : Me} (C : CX Z yJ0_init_2 cJ0_init_2 none 1 5) {a0 : Nat} {μ : Me} (h : s_X5_init a0 μ = some w) (hK : w = fin) : WL Z (QN Z none fin) μ 0 [(0, vO a0), (1, .null), (2, .null), (3, vI 0), (4, vI 0)] [] := by
  obtain ⟨ht, hw⟩ := ib_ h
  refine r_aload_n C 0 dJ0_init_2_0 rfl rfl ?_
  refine r_objInit C q200 q156 q157 (by decide) (Nat.le_of_ble_eq_true rfl) dJ0_init_2_1 ?_
  refine r_aload_n C 0 dJ0_init_2_4 rfl rfl ?_
  refine r_aload_n C 0 dJ0_init_2_5 rfl rfl ?_
  refine r_putN C (c := 3) (r := (RX5, TX5, 7)) (o := some a0) rfl rfl 0 (by decide) rfl rfl (if_pos ht) q236 dJ0_init_2_6 ?_
  refine r_aload_n C 0 dJ0_init_2_9 rfl rfl ?_
  refine r_getsQ C C.zq.1.1 q201 dJ0_init_2_10 fun o1 => ?_
  refine r_putN C (c := 3) (r := (RX5, TX5, 7)) (o := o1) rfl rfl 1 (by decide) rfl rfl (if_pos ht) q237 dJ0_init_2_13 ?_
  refine r_aload_n C 0 dJ0_init_2_16 rfl rfl ?_
  refine r_getsQ C C.zq.2.1 q203 dJ0_init_2_17 fun o2 => ?_
  refine r_putN C (c := 3) (r := (RX5, TX5, 7)) (o := o2) rfl rfl 2 (by decide) rfl rfl (if_pos ht) q238 dJ0_init_2_20 ?_
  refine r_iload C 4 dJ0_init_2_23 rfl ?_
  refine r_if_eq C dJ0_init_2_25 (tgt := 36) (by decide) (fun _ => ?_) (fun e => absurd rfl e)
  refine r_aload_n C 0 dJ0_init_2_36 rfl rfl ?_
  refine r_null C dJ0_init_2_37 ?_
  refine r_putN C (c := 3) (r := (RX5, TX5, 7)) (o := none) rfl rfl 1 (by decide) rfl rfl (if_pos ht) q237 dJ0_init_2_38 ?_
  refine r_aload_n C 0 dJ0_init_2_41 rfl rfl ?_
  refine r_aload_nN C 1 dJ0_init_2_42 rfl rfl ?_
  refine r_putN C (c := 3) (r := (RX5, TX5, 7)) (o := none) rfl rfl 3 (by decide) rfl rfl (if_pos ht) q235 dJ0_init_2_43 ?_
  refine r_aload_n C 0 dJ0_init_2_46 rfl rfl ?_
  refine r_aload_nN C 2 dJ0_init_2_47 rfl rfl ?_
  refine r_putN C (c := 3) (r := (RX5, TX5, 7)) (o := none) rfl rfl 0 (by decide) rfl rfl (if_pos ht) q236 dJ0_init_2_48 ?_
  refine r_iload_n C 3 dJ0_init_2_51 rfl rfl ?_
  refine r_if_ne C dJ0_init_2_52 (tgt := 60) (by decide) (fun e => absurd rfl e) (fun _ => ?_)
  refine r_aload_n C 0 dJ0_init_2_55 rfl rfl ?_
  refine r_null C dJ0_init_2_56 ?_
  refine r_putN C (c := 3) (r := (RX5, TX5, 7)) (o := none) rfl rfl 2 (by decide) rfl rfl (if_pos ht) q238 dJ0_init_2_57 ?_
  refine r_vret C ?_ dJ0_init_2_60
  rw [← hK, ← hw]
  simp only [sR_sR, sR_rf]
  congr 1
  funext j
  unfold wr4 upz
  repeat' split
  all_goals first | rfl | omega
theorem hdJ0_init_2 : zhd yJ0_init_2 4 := by decide +kernel
theorem hdJ1_init : zhd yJ1_init 4 := by decide +kernel
theorem hdJ2_init : zhd yJ2_init 4 := by decide +kernel
theorem hdX5_init : zhd yX5_init 0 := by decide +kernel
theorem m_J0_init_2 {l : Launch} {D : va_G} {b0 : Nat} (hl : l.stackTraces = false) {a0 : Nat} {μ : Me} {w : Me} (h : s_X5_init a0 μ = some w) : MN l D b0 yJ0_init_2 (ws_ yJ0_init_2 cJ0_init_2 5 none) 1 [vO a0, .null, .null, vI 0, vI 0] μ none w :=
  MN.of hl (by decide +kernel) (Nat.le_of_ble_eq_true rfl) (fun Z C _ _ => w_J0_init_2 C h rfl)
theorem m_J1_init {l : Launch} {D : va_G} {b0 : Nat} (hl : l.stackTraces = false) {a0 : Nat} {μ : Me} {w : Me} (h : s_X5_init a0 μ = some w) : MN l D b0 yJ1_init (ws_ yJ1_init cJ1_init 5 none) 2 [vO a0, .null, .null, vI 0, vI 0] μ none w :=
  MN.of hl (by decide +kernel) (Nat.le_of_ble_eq_true rfl) (fun Z C e _ => by
    refine r_aload_n C 0 dJ1_init_0 rfl rfl ?_
    refine r_aload_nN C 1 dJ1_init_1 rfl rfl ?_
    refine r_aload_nN C 2 dJ1_init_2 rfl rfl ?_
    refine r_iload_n C 3 dJ1_init_3 rfl rfl ?_
    refine r_iload C 4 dJ1_init_4 rfl ?_
    refine r_callI C (As := [.null, .null, vI 0, vI 0]) (m_J0_init_2 C.tr h) q229 q231 q124 q230 rfl hdJ0_init_2 rfl rfl (Nat.le_of_ble_eq_true rfl) (by decide) dJ1_init_6 rfl ?_
    exact r_vret C rfl dJ1_init_9)
theorem m_J2_init {l : Launch} {D : va_G} {b0 : Nat} (hl : l.stackTraces = false) {a0 : Nat} {μ : Me} {w : Me} (h : s_X5_init a0 μ = some w) : MN l D b0 yJ2_init (ws_ yJ2_init cJ2_init 5 none) 3 [vO a0, .null, .null, vI 0, vI 0] μ none w :=
  MN.of hl (by decide +kernel) (Nat.le_of_ble_eq_true rfl) (fun Z C e _ => by
    refine r_aload_n C 0 dJ2_init_0 rfl rfl ?_
    refine r_aload_nN C 1 dJ2_init_1 rfl rfl ?_
    refine r_aload_nN C 2 dJ2_init_2 rfl rfl ?_
    refine r_iload_n C 3 dJ2_init_3 rfl rfl ?_
    refine r_iload C 4 dJ2_init_4 rfl ?_
    refine r_callI C (As := [.null, .null, vI 0, vI 0]) (m_J1_init C.tr h) q226 q228 q125 q227 rfl hdJ1_init rfl rfl (Nat.le_of_ble_eq_true rfl) (by decide) dJ2_init_6 rfl ?_
    exact r_vret C rfl dJ2_init_9)
theorem m_X5_init {l : Launch} {D : va_G} {b0 : Nat} (hl : l.stackTraces = false) {a0 : Nat} {μ : Me} {w : Me} (h : s_X5_init a0 μ = some w) : MN l D b0 yX5_init (ws_ yX5_init cX5_init 1 none) 4 [vO a0] μ none w :=
  MN.of hl (by decide +kernel) (Nat.le_of_ble_eq_true rfl) (fun Z C e _ => by
    refine r_aload_n C 0 dX5_init_0 rfl rfl ?_
    refine r_null C dX5_init_1 ?_
    refine r_null C dX5_init_2 ?_
    refine r_iconst C dX5_init_3 ?_
    refine r_iconst C dX5_init_4 ?_
    refine r_callI C (As := [.null, .null, vI 0, vI 0]) (m_J2_init C.tr h) q223 q225 q126 q224 rfl hdJ2_init rfl rfl (Nat.le_of_ble_eq_true rfl) (by decide) dX5_init_5 rfl ?_
    exact r_vret C rfl dX5_init_8)
