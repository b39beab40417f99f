/-! the law's start: what the tables say, the memory of the start -/
set_option maxRecDepth 100000
theorem zIns {c : Nat} {r : vw_C} (h : zCl[c]? = some r) : ∃ n, Cond.instantiable r.1 n ∈ lw_all := by
  match c, h with
  | 0, h => cases h; exact ⟨_, q151⟩
  | 1, h => cases h; exact ⟨_, q159⟩
  | 2, h => cases h; exact ⟨_, q165⟩
  | 3, h => cases h; exact ⟨_, q176⟩
  | 4, h => cases h; exact ⟨_, q276⟩
  | 5, h => cases h; exact ⟨_, q282⟩
  | 6, h => cases h; exact ⟨_, q294⟩
  | 7, h => cases h; exact ⟨_, q340⟩
  | 8, h => cases h; exact ⟨_, q354⟩
  | 9, h => cases h; exact ⟨_, q1308⟩
  | 10, h => cases h; exact ⟨_, q684⟩
  | 11, h => cases h; exact ⟨_, q702⟩
  | 12, h => cases h; exact ⟨_, q720⟩
  | 13, h => cases h; exact ⟨_, q743⟩
  | 14, h => cases h; exact ⟨_, q752⟩
  | c + 15, h => simp [zCl] at h
theorem zNest_on {w : Cond} (h : zNest w = true) : w.onTables = true := by
  cases w <;> first | rfl | cases h
theorem nc_words : ∀ i, i < 5 → ∀ j, j < 5 → i ≠ j → Cond.not (.castable (exn i) (exn j)) ∈ flatC (Jvm.Cond.and given_1 narrow_1) := by decide +kernel
theorem kt_start {s : State} {b : Addr} (hts : ∀ w ∈ lw_tbl, w.before #[Value.ref b] s = true) (hgv : (Jvm.Cond.and given_1 narrow_1).before #[Value.ref b] s = true) : ∃ D : va_G, KT D s := by
  have h1 : ∀ c : Nat, ∃ p : ClassId × (Nat → Nat), ∀ r : vw_C, zCl[c]? = some r → u_Kn s r.1 r.2.1 r.2.2 p.1 p.2 := by
    intro c
    cases h : zCl[c]? with
    | none => exact ⟨(0, fun _ => 0), fun r h9 => by cases h9⟩
    | some r =>
      obtain ⟨n, hn⟩ := zIns h
      obtain ⟨cC, iS, hK⟩ := u_known hts (fun w hw => lw_all_tbl ((zCl_ok h).1 w hw)) (hts _ (lw_all_tbl hn))
      exact ⟨(cC, iS), fun r' h9 => by cases h9; exact hK⟩
  obtain ⟨f, hf⟩ := Classical.axiomOfChoice h1
  obtain ⟨cI, kI, pI, a1, a2, a3⟩ := Cond.arrayClass_spec (hts _ (lw_all_tbl q315))
  obtain ⟨cB, kB, pB, b1, b2, b3⟩ := Cond.arrayClass_spec (hts _ (lw_all_tbl q174))
  obtain ⟨cJ, kJ, pJ, c1, c2, c3⟩ := Cond.arrayClass_spec (hts _ (lw_all_tbl q486))
  have hAO : zAO s := hts _ q348
  obtain ⟨pA, cA, kA, d1, d2, d3, d4, d5⟩ := zAO_spec hAO
  obtain ⟨pF, cF, kF, e1, e2, e3, e4, e5⟩ := Cond.arrayOver_spec (hts _ q346)
  obtain ⟨pS, cS, kS, f1, f2, f3, f4, f5⟩ := Cond.arrayOver_spec (hts _ q350)
  obtain ⟨pT, cT, kT, g1, g2, g3, g4, g5⟩ := Cond.arrayOver_spec (hts _ q352)
  refine ⟨(fun c => if c = 101 then cI else if c = 102 then cB else if c = 103 then cJ else if c = 104 then cF else if c = 105 then cA else if c = 106 then cS else if c = 107 then cT else (f c).1, fun c => (f c).2), ⟨fun c r hc => ?_, fun k q hk => ?_⟩, fun w hw => ?_, hts _ q346, hts _ q350, hts _ q352, hAO, fun i j hi hj hij => va_Nc.of (flat_of_before _ hgv _ (nc_words i hi j hj hij))⟩
  · have hlt := zCl_lt hc
    have h9 := hf c r hc
    dsimp only
    rw [if_neg (by omega), if_neg (by omega), if_neg (by omega), if_neg (by omega), if_neg (by omega), if_neg (by omega), if_neg (by omega)]
    exact h9
  · match k, hk with
    | 0, hk => cases hk; exact ⟨fun N z => ⟨(fun k h => by cases h), kI, a2, pI, a3⟩, a1⟩
    | 1, hk => cases hk; exact ⟨fun N z => ⟨(fun k h => by cases h), kB, b2, pB, b3⟩, b1⟩
    | 2, hk => cases hk; exact ⟨fun N z => ⟨(fun k h => by cases h), kJ, c2, pJ, c3⟩, c1⟩
    | 3, hk => cases hk; exact ⟨fun N z => ⟨(fun k h => by cases h), kF, e3, pF, e4⟩, kF, pF, e3, e4, e1, e5⟩
    | 4, hk => cases hk; exact ⟨fun N z => ⟨(fun k h => by cases h), kA, d3, pA, d4⟩, d5⟩
    | 5, hk => cases hk; exact ⟨fun N z => ⟨(fun k h => by cases h), kS, f3, pS, f4⟩, kS, pS, f3, f4, f1, f5⟩
    | 6, hk => cases hk; exact ⟨fun N z => ⟨(fun k h => by cases h), kT, g3, pT, g4⟩, kT, pT, g3, g4, g1, g5⟩
    | k + 7, hk => simp at hk
  · obtain ⟨h2, h3⟩ := List.mem_filter.mp hw
    exact va_Nw.of (zNest_on h3) (hts w h2)
/-- the memory of the start -/
def mu0 (h0 : Nat) : Me := (((h0, 603072, 7186538), (fun _ => 99), (fun _ => 0), (fun _ _ => none)), (fun _ _ => 0), (fun _ _ => 0))
theorem whole_of {p : Program} {e : Env} {s : State} {m : MethodId} {below : List Frame} {meth : Method} {c : Code} (l : Launch) (hflags : l.flags = flags0) {b L : Nat} {xs : Nat → Int32} (hL : L ≤ 384) (C0 : lw_At p s m meth c b L xs)
    (hp : ∀ h0 : Nat, b < h0 → ∃ w : Int × Me, s_L_law b L xs b (mu0 h0) = some w ∧ w.1 = 1) : W p l e room_1 s m #[Value.ref b] below meth c s.heap [] 0 0 (lw_Z below #[Value.ref b] s) (entryFrame m ([Value.ref b] : List Value).toArray 8) := by
  obtain ⟨hx, hb, hr, hml, hown, hts, hX, hbl, hlocks, hgv⟩ := C0
  obtain ⟨D, hK⟩ := kt_start hts hgv
  obtain ⟨w, hw, hw1⟩ := hp s.heap.size hbl
  have hs := flat_of_before _ hgv
  have hZQ : ZQ s.heap.size s s.heap :=
    ⟨vx_Zqof (hts _ q202) (hts _ (lw_all_tbl q124)) (hs (Cond.isRef (.static "java/lang/Throwable" "UNASSIGNED_STACK" "[Ljava/lang/StackTraceElement;")) (by decide +kernel)) (fun a h q => by omega),
     vx_Zqof (hts _ q204) (hts _ (lw_all_tbl q124)) (hs (Cond.isRef (.static "java/lang/Throwable" "SUPPRESSED_SENTINEL" "Ljava/util/List;")) (by decide +kernel)) (fun a h q => by omega)⟩
  have htr : l.stackTraces = false := by
    unfold Launch.stackTraces
    rw [hflags]
    decide
  have C : CX (p, l, e, room_1, s, m, #[Value.ref b], below, meth, c, D, s.heap.size, 8) ⟨RX0, meth.name, ""⟩ cL_law (some .boolean) 213 8 :=
    ⟨hx, hb, hr, hml, hown, fun w hw => hts w (lw_all_tbl hw), hlocks, rfl, hK, hZQ, Nat.le_refl _, htr, by decide, by decide, rfl⟩
  have G : LX (p, l, e, room_1, s, m, #[Value.ref b], below, meth, c, D, s.heap.size, 8) (lw_Z below #[Value.ref b] s) b L xs := by
    refine ⟨hX, hbl, hbl, hL, fun μ pc L d => ?_⟩
    intro H locs ls hR hS hl
    exact va_forget (fun q hq => hS.1.2.2 q hq) (W.widen hS.ca hS.sa (lw_ret hx hb hr hlocks d))
  have h := w_L_law (fin := w) C G hw1 hw rfl
  rw [lg_entry_eq]
  have hlv := lv_entry ([Value.ref b]) (n := 8) (Nat.le_of_ble_eq_true rfl)
  have hR : RP D s.heap.size (mu0 s.heap.size) s.heap :=
    ⟨rfl, fun a => ⟨fun c r hc ht => by have := zCl_lt hc; have : (99 : Nat) = c := ht; omega, fun t l1 l2 ht => by have : (99 : Nat) = t := ht; omega⟩, fun a h => absurd rfl h⟩
  exact W.exact (h s.heap [] _ hR ⟨va_S.rf, fun _ _ => rfl, Nat.le_refl _, by rw [nsl_self]; exact Nat.le_of_eq (Nat.zero_add _)⟩ hlv)
