/-! the twin: where what lies (printed by gen/ptw.py) -/
set_option maxRecDepth 100000
def TL (sh : Sh) (m : Nat) : Prop := sh.2.1 m = 9 ∧ (sh.2.2.2 m 1 = some (m + 1) ∧ AR sh (m + 1) 101 4007) ∧ (sh.2.2.2 m 2 = some (m + 2) ∧ AR sh (m + 2) 101 3606) ∧ (sh.2.2.2 m 4 = some (m + 3) ∧ AR sh (m + 3) 101 48) ∧ (sh.2.2.2 m 5 = some (m + 4) ∧ AR sh (m + 4) 101 1968) ∧ (sh.2.2.2 m 10 = some (m + 5) ∧ AR sh (m + 5) 102 400) ∧ (sh.2.2.2 m 18 = some (m + 6) ∧ AR sh (m + 6) 101 5) ∧ (sh.2.2.2 m 20 = some (m + 7) ∧ AR sh (m + 7) 101 48) ∧ (sh.2.2.2 m 21 = some (m + 8) ∧ AR sh (m + 8) 103 1261) ∧ (sh.2.2.2 m 22 = some (m + 9) ∧ AR sh (m + 9) 101 3936) ∧ (sh.2.2.2 m 23 = some (m + 10) ∧ AR sh (m + 10) 101 108) ∧ (sh.2.2.2 m 25 = some (m + 11) ∧ AR sh (m + 11) 101 361) ∧ (sh.2.2.2 m 26 = some (m + 12) ∧ AR sh (m + 12) 101 180) ∧ (sh.2.2.2 m 27 = some (m + 13) ∧ AR sh (m + 13) 101 3) ∧ (sh.2.2.2 m 28 = some (m + 14) ∧ AR sh (m + 14) 101 3) ∧ (sh.2.2.2 m 34 = some (m + 15) ∧ AR sh (m + 15) 103 4)
theorem t_ck {sh : Sh} {I J : Nat → Int → Int} {m : Nat} (T : TL sh m) : ck (sh, I, J) 9 m = some () := ck_m T.1
theorem t_gI {sh : Sh} {I J : Nat → Int → Int} {m : Nat} (T : TL sh m) (k : Int) : gI (sh, I, J) 9 m k = some (I m k) := gI_m T.1 k
theorem t_pI {sh : Sh} {I J : Nat → Int → Int} {m : Nat} (T : TL sh m) (k v : Int) : pI (sh, I, J) 9 m k v = some (sh, up1 I m (upz (I m) k v), J) := pI_m T.1 k v
theorem t_gJ {sh : Sh} {I J : Nat → Int → Int} {m : Nat} (T : TL sh m) (k : Int) : gJ (sh, I, J) 9 m k = some (J m k) := gJ_m T.1 k
theorem t_pJ {sh : Sh} {I J : Nat → Int → Int} {m : Nat} (T : TL sh m) (k v : Int) : pJ (sh, I, J) 9 m k v = some (sh, I, up1 J m (upz (J m) k v)) := pJ_m T.1 k v
theorem tR_world {sh : Sh} {I J : Nat → Int → Int} {m : Nat} (T : TL sh m) : gR (sh, I, J) 9 m 1 = some (m + 1) := gR_m T.1 T.2.1.1
theorem tA_world {sh : Sh} {I J : Nat → Int → Int} {m : Nat} (T : TL sh m) {j : Int} (h0 : 0 ≤ j) (h1 : j < 4007) : aI (sh, I, J) 101 (m + 1) j = some (I (m + 1) j) := aI_m T.2.1.2 h0 h1
theorem tU_world {sh : Sh} {I J : Nat → Int → Int} {m : Nat} (T : TL sh m) {j v : Int} (h0 : 0 ≤ j) (h1 : j < 4007) : uI (sh, I, J) (m + 1) j v = some (sh, up1 I (m + 1) (upz (I (m + 1)) j v), J) := uI_m T.2.1.2 h0 h1
theorem tR_image {sh : Sh} {I J : Nat → Int → Int} {m : Nat} (T : TL sh m) : gR (sh, I, J) 9 m 2 = some (m + 2) := gR_m T.1 T.2.2.1.1
theorem tA_image {sh : Sh} {I J : Nat → Int → Int} {m : Nat} (T : TL sh m) {j : Int} (h0 : 0 ≤ j) (h1 : j < 3606) : aI (sh, I, J) 101 (m + 2) j = some (I (m + 2) j) := aI_m T.2.2.1.2 h0 h1
theorem tU_image {sh : Sh} {I J : Nat → Int → Int} {m : Nat} (T : TL sh m) {j v : Int} (h0 : 0 ≤ j) (h1 : j < 3606) : uI (sh, I, J) (m + 2) j v = some (sh, up1 I (m + 2) (upz (I (m + 2)) j v), J) := uI_m T.2.2.1.2 h0 h1
theorem tR_deg {sh : Sh} {I J : Nat → Int → Int} {m : Nat} (T : TL sh m) : gR (sh, I, J) 9 m 4 = some (m + 3) := gR_m T.1 T.2.2.2.1.1
theorem tA_deg {sh : Sh} {I J : Nat → Int → Int} {m : Nat} (T : TL sh m) {j : Int} (h0 : 0 ≤ j) (h1 : j < 48) : aI (sh, I, J) 101 (m + 3) j = some (I (m + 3) j) := aI_m T.2.2.2.1.2 h0 h1
theorem tU_deg {sh : Sh} {I J : Nat → Int → Int} {m : Nat} (T : TL sh m) {j v : Int} (h0 : 0 ≤ j) (h1 : j < 48) : uI (sh, I, J) (m + 3) j v = some (sh, up1 I (m + 3) (upz (I (m + 3)) j v), J) := uI_m T.2.2.2.1.2 h0 h1
theorem tR_num {sh : Sh} {I J : Nat → Int → Int} {m : Nat} (T : TL sh m) : gR (sh, I, J) 9 m 5 = some (m + 4) := gR_m T.1 T.2.2.2.2.1.1
theorem tA_num {sh : Sh} {I J : Nat → Int → Int} {m : Nat} (T : TL sh m) {j : Int} (h0 : 0 ≤ j) (h1 : j < 1968) : aI (sh, I, J) 101 (m + 4) j = some (I (m + 4) j) := aI_m T.2.2.2.2.1.2 h0 h1
theorem tU_num {sh : Sh} {I J : Nat → Int → Int} {m : Nat} (T : TL sh m) {j v : Int} (h0 : 0 ≤ j) (h1 : j < 1968) : uI (sh, I, J) (m + 4) j v = some (sh, up1 I (m + 4) (upz (I (m + 4)) j v), J) := uI_m T.2.2.2.2.1.2 h0 h1
theorem tR_tape {sh : Sh} {I J : Nat → Int → Int} {m : Nat} (T : TL sh m) : gR (sh, I, J) 9 m 10 = some (m + 5) := gR_m T.1 T.2.2.2.2.2.1.1
theorem tA_tape {sh : Sh} {I J : Nat → Int → Int} {m : Nat} (T : TL sh m) {j : Int} (h0 : 0 ≤ j) (h1 : j < 400) : aI (sh, I, J) 102 (m + 5) j = some (I (m + 5) j) := aI_m T.2.2.2.2.2.1.2 h0 h1
theorem tU_tape {sh : Sh} {I J : Nat → Int → Int} {m : Nat} (T : TL sh m) {j v : Int} (h0 : 0 ≤ j) (h1 : j < 400) : uB (sh, I, J) (m + 5) j v = some (sh, up1 I (m + 5) (upz (I (m + 5)) j (w8 v)), J) := uB_m T.2.2.2.2.2.1.2 h0 h1
theorem tR_five {sh : Sh} {I J : Nat → Int → Int} {m : Nat} (T : TL sh m) : gR (sh, I, J) 9 m 18 = some (m + 6) := gR_m T.1 T.2.2.2.2.2.2.1.1
theorem tA_five {sh : Sh} {I J : Nat → Int → Int} {m : Nat} (T : TL sh m) {j : Int} (h0 : 0 ≤ j) (h1 : j < 5) : aI (sh, I, J) 101 (m + 6) j = some (I (m + 6) j) := aI_m T.2.2.2.2.2.2.1.2 h0 h1
theorem tU_five {sh : Sh} {I J : Nat → Int → Int} {m : Nat} (T : TL sh m) {j v : Int} (h0 : 0 ≤ j) (h1 : j < 5) : uI (sh, I, J) (m + 6) j v = some (sh, up1 I (m + 6) (upz (I (m + 6)) j v), J) := uI_m T.2.2.2.2.2.2.1.2 h0 h1
theorem tR_ranks {sh : Sh} {I J : Nat → Int → Int} {m : Nat} (T : TL sh m) : gR (sh, I, J) 9 m 20 = some (m + 7) := gR_m T.1 T.2.2.2.2.2.2.2.1.1
theorem tA_ranks {sh : Sh} {I J : Nat → Int → Int} {m : Nat} (T : TL sh m) {j : Int} (h0 : 0 ≤ j) (h1 : j < 48) : aI (sh, I, J) 101 (m + 7) j = some (I (m + 7) j) := aI_m T.2.2.2.2.2.2.2.1.2 h0 h1
theorem tU_ranks {sh : Sh} {I J : Nat → Int → Int} {m : Nat} (T : TL sh m) {j v : Int} (h0 : 0 ≤ j) (h1 : j < 48) : uI (sh, I, J) (m + 7) j v = some (sh, up1 I (m + 7) (upz (I (m + 7)) j v), J) := uI_m T.2.2.2.2.2.2.2.1.2 h0 h1
theorem tR_ways {sh : Sh} {I J : Nat → Int → Int} {m : Nat} (T : TL sh m) : gR (sh, I, J) 9 m 21 = some (m + 8) := gR_m T.1 T.2.2.2.2.2.2.2.2.1.1
theorem tA_ways {sh : Sh} {I J : Nat → Int → Int} {m : Nat} (T : TL sh m) {j : Int} (h0 : 0 ≤ j) (h1 : j < 1261) : aJ (sh, I, J) 103 (m + 8) j = some (J (m + 8) j) := aJ_m T.2.2.2.2.2.2.2.2.1.2 h0 h1
theorem tU_ways {sh : Sh} {I J : Nat → Int → Int} {m : Nat} (T : TL sh m) {j v : Int} (h0 : 0 ≤ j) (h1 : j < 1261) : uJ (sh, I, J) (m + 8) j v = some (sh, I, up1 J (m + 8) (upz (J (m + 8)) j v)) := uJ_m T.2.2.2.2.2.2.2.2.1.2 h0 h1
theorem tR_rows {sh : Sh} {I J : Nat → Int → Int} {m : Nat} (T : TL sh m) : gR (sh, I, J) 9 m 22 = some (m + 9) := gR_m T.1 T.2.2.2.2.2.2.2.2.2.1.1
theorem tA_rows {sh : Sh} {I J : Nat → Int → Int} {m : Nat} (T : TL sh m) {j : Int} (h0 : 0 ≤ j) (h1 : j < 3936) : aI (sh, I, J) 101 (m + 9) j = some (I (m + 9) j) := aI_m T.2.2.2.2.2.2.2.2.2.1.2 h0 h1
theorem tU_rows {sh : Sh} {I J : Nat → Int → Int} {m : Nat} (T : TL sh m) {j v : Int} (h0 : 0 ≤ j) (h1 : j < 3936) : uI (sh, I, J) (m + 9) j v = some (sh, up1 I (m + 9) (upz (I (m + 9)) j v), J) := uI_m T.2.2.2.2.2.2.2.2.2.1.2 h0 h1
theorem tR_drawn {sh : Sh} {I J : Nat → Int → Int} {m : Nat} (T : TL sh m) : gR (sh, I, J) 9 m 23 = some (m + 10) := gR_m T.1 T.2.2.2.2.2.2.2.2.2.2.1.1
theorem tA_drawn {sh : Sh} {I J : Nat → Int → Int} {m : Nat} (T : TL sh m) {j : Int} (h0 : 0 ≤ j) (h1 : j < 108) : aI (sh, I, J) 101 (m + 10) j = some (I (m + 10) j) := aI_m T.2.2.2.2.2.2.2.2.2.2.1.2 h0 h1
theorem tU_drawn {sh : Sh} {I J : Nat → Int → Int} {m : Nat} (T : TL sh m) {j v : Int} (h0 : 0 ≤ j) (h1 : j < 108) : uI (sh, I, J) (m + 10) j v = some (sh, up1 I (m + 10) (upz (I (m + 10)) j v), J) := uI_m T.2.2.2.2.2.2.2.2.2.2.1.2 h0 h1
theorem tR_valued {sh : Sh} {I J : Nat → Int → Int} {m : Nat} (T : TL sh m) : gR (sh, I, J) 9 m 25 = some (m + 11) := gR_m T.1 T.2.2.2.2.2.2.2.2.2.2.2.1.1
theorem tA_valued {sh : Sh} {I J : Nat → Int → Int} {m : Nat} (T : TL sh m) {j : Int} (h0 : 0 ≤ j) (h1 : j < 361) : aI (sh, I, J) 101 (m + 11) j = some (I (m + 11) j) := aI_m T.2.2.2.2.2.2.2.2.2.2.2.1.2 h0 h1
theorem tU_valued {sh : Sh} {I J : Nat → Int → Int} {m : Nat} (T : TL sh m) {j v : Int} (h0 : 0 ≤ j) (h1 : j < 361) : uI (sh, I, J) (m + 11) j v = some (sh, up1 I (m + 11) (upz (I (m + 11)) j v), J) := uI_m T.2.2.2.2.2.2.2.2.2.2.2.1.2 h0 h1
theorem tR_powered {sh : Sh} {I J : Nat → Int → Int} {m : Nat} (T : TL sh m) : gR (sh, I, J) 9 m 26 = some (m + 12) := gR_m T.1 T.2.2.2.2.2.2.2.2.2.2.2.2.1.1
theorem tA_powered {sh : Sh} {I J : Nat → Int → Int} {m : Nat} (T : TL sh m) {j : Int} (h0 : 0 ≤ j) (h1 : j < 180) : aI (sh, I, J) 101 (m + 12) j = some (I (m + 12) j) := aI_m T.2.2.2.2.2.2.2.2.2.2.2.2.1.2 h0 h1
theorem tU_powered {sh : Sh} {I J : Nat → Int → Int} {m : Nat} (T : TL sh m) {j v : Int} (h0 : 0 ≤ j) (h1 : j < 180) : uI (sh, I, J) (m + 12) j v = some (sh, up1 I (m + 12) (upz (I (m + 12)) j v), J) := uI_m T.2.2.2.2.2.2.2.2.2.2.2.2.1.2 h0 h1
theorem tR_spot {sh : Sh} {I J : Nat → Int → Int} {m : Nat} (T : TL sh m) : gR (sh, I, J) 9 m 27 = some (m + 13) := gR_m T.1 T.2.2.2.2.2.2.2.2.2.2.2.2.2.1.1
theorem tA_spot {sh : Sh} {I J : Nat → Int → Int} {m : Nat} (T : TL sh m) {j : Int} (h0 : 0 ≤ j) (h1 : j < 3) : aI (sh, I, J) 101 (m + 13) j = some (I (m + 13) j) := aI_m T.2.2.2.2.2.2.2.2.2.2.2.2.2.1.2 h0 h1
theorem tU_spot {sh : Sh} {I J : Nat → Int → Int} {m : Nat} (T : TL sh m) {j v : Int} (h0 : 0 ≤ j) (h1 : j < 3) : uI (sh, I, J) (m + 13) j v = some (sh, up1 I (m + 13) (upz (I (m + 13)) j v), J) := uI_m T.2.2.2.2.2.2.2.2.2.2.2.2.2.1.2 h0 h1
theorem tR_factor {sh : Sh} {I J : Nat → Int → Int} {m : Nat} (T : TL sh m) : gR (sh, I, J) 9 m 28 = some (m + 14) := gR_m T.1 T.2.2.2.2.2.2.2.2.2.2.2.2.2.2.1.1
theorem tA_factor {sh : Sh} {I J : Nat → Int → Int} {m : Nat} (T : TL sh m) {j : Int} (h0 : 0 ≤ j) (h1 : j < 3) : aI (sh, I, J) 101 (m + 14) j = some (I (m + 14) j) := aI_m T.2.2.2.2.2.2.2.2.2.2.2.2.2.2.1.2 h0 h1
theorem tU_factor {sh : Sh} {I J : Nat → Int → Int} {m : Nat} (T : TL sh m) {j v : Int} (h0 : 0 ≤ j) (h1 : j < 3) : uI (sh, I, J) (m + 14) j v = some (sh, up1 I (m + 14) (upz (I (m + 14)) j v), J) := uI_m T.2.2.2.2.2.2.2.2.2.2.2.2.2.2.1.2 h0 h1
theorem tR_whole {sh : Sh} {I J : Nat → Int → Int} {m : Nat} (T : TL sh m) : gR (sh, I, J) 9 m 34 = some (m + 15) := gR_m T.1 T.2.2.2.2.2.2.2.2.2.2.2.2.2.2.2.1
theorem tA_whole {sh : Sh} {I J : Nat → Int → Int} {m : Nat} (T : TL sh m) {j : Int} (h0 : 0 ≤ j) (h1 : j < 4) : aJ (sh, I, J) 103 (m + 15) j = some (J (m + 15) j) := aJ_m T.2.2.2.2.2.2.2.2.2.2.2.2.2.2.2.2 h0 h1
theorem tU_whole {sh : Sh} {I J : Nat → Int → Int} {m : Nat} (T : TL sh m) {j v : Int} (h0 : 0 ≤ j) (h1 : j < 4) : uJ (sh, I, J) (m + 15) j v = some (sh, I, up1 J (m + 15) (upz (J (m + 15)) j v)) := uJ_m T.2.2.2.2.2.2.2.2.2.2.2.2.2.2.2.2 h0 h1
