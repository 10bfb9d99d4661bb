/-! ===== the component: what a chip says of a row, small methods ===== -/
/-- a chip's row agrees with a row wherever that is live -/
def LV (r g : Int → Int) : Prop := (∀ j, 0 ≤ j → j < 4 → g j = r j) ∧ (∀ k j : Int, 0 ≤ k → k < r 0 → 0 ≤ j → j < 5 → g (4 + 5 * k + j) = r (4 + 5 * k + j)) ∧ (∀ k j : Int, 0 ≤ k → k < r 1 → 0 ≤ j → j < 4 → g (24 + 4 * k + j) = r (24 + 4 * k + j)) ∧ (∀ k j : Int, 0 ≤ k → k < r 2 → 0 ≤ j → j < 7 → g (36 + 7 * k + j) = r (36 + 7 * k + j)) ∧ (∀ n j : Int, 0 ≤ n → n < r 3 → 0 ≤ j → j < 2 + 2 * r (176 + 14 * n + 1) → g (176 + 14 * n + j) = r (176 + 14 * n + j))
theorem LV_r (r : Int → Int) : LV r r := ⟨fun _ _ _ => rfl, fun _ _ _ _ _ _ => rfl, fun _ _ _ _ _ _ => rfl, fun _ _ _ _ _ _ => rfl, fun _ _ _ _ _ _ => rfl⟩
/-- fences don't overlap -/
def fdOk (r : Int → Int) : Prop := ∀ (R S : Int) (f g : Nat), (f : Int) < r 1 → (g : Int) < r 1 → sFin r R S f = true → sFin r R S g = true → f = g
section C1
variable {N : Nat} {h : ka_H} {B : Nat} {ca : Nat → Int → Int} {cb : Value} {r : Int → Int} {s : Nat}
theorem d_in {v lo hi : Int} (h1 : -2147483648 ≤ v ∧ v < 2147483648) (h2 : -2147483648 ≤ lo ∧ lo < 2147483648) (h3 : -2147483648 ≤ hi ∧ hi < 2147483648) : fm_X1_in N [.int (iI v), .int (iI lo), .int (iI hi)] h = some (vIn v lo hi, h) := by
  rw [en_X1_in, eq_X1_in_0]
  simp (disch := omega) only [iI_ltD, eq_X1_in_14, eq_X1_in_15, iI_10, eq_self, ↓reduceIte]
  unfold vIn
  by_cases q1 : v < lo
  · rw [if_pos q1, decide_eq_false (by omega)]
  · rw [if_neg q1]
    by_cases q2 : hi < v
    · rw [if_pos q2, decide_eq_false (by omega)]
    · rw [if_neg q2, decide_eq_true (by omega)]
theorem d_abs {v : Int} (h1 : -2147483648 < v ∧ v < 2147483648) : fm_J0_abs N [.int (iI v)] h = some (iI (if 0 ≤ v then v else -v), h) := by
  rw [en_J0_abs, eq_J0_abs_0]
  simp (disch := omega) only [iI_leD, eq_J0_abs_10, iI_neg]
  split <;> rfl
theorem d_max {x y : Int} (h1 : -2147483648 ≤ x ∧ x < 2147483648) (h2 : -2147483648 ≤ y ∧ y < 2147483648) : fm_J0_max N [.int (iI x), .int (iI y)] h = some (iI (if x < y then y else x), h) := by
  rw [en_J0_max, eq_J0_max_0]
  simp (disch := omega) only [iI_ltD, eq_J0_max_10]
  split <;> rfl
theorem d_min {x y : Int} (h1 : -2147483648 ≤ x ∧ x < 2147483648) (h2 : -2147483648 ≤ y ∧ y < 2147483648) : fm_J0_min N [.int (iI x), .int (iI y)] h = some (iI (if y < x then y else x), h) := by
  rw [en_J0_min, eq_J0_min_0]
  simp (disch := omega) only [iI_ltD, eq_J0_min_10]
  split <;> rfl
theorem d_bound {v lo hi : Int} (h1 : -2147483648 ≤ v ∧ v < 2147483648) (h2 : -2147483648 ≤ lo ∧ lo < 2147483648) (h3 : -2147483648 ≤ hi ∧ hi < 2147483648) (hl : lo ≤ hi) : fm_X1_bound N [.int (iI v), .int (iI lo), .int (iI hi)] h = some (iI (sHeld v lo hi), h) := by
  rw [en_X1_bound, eq_X1_bound_0, d_min h3 h1, Option.bind_some]
  dsimp only
  rw [d_max h2 (by split <;> omega), Option.bind_some]
  dsimp only
  unfold sHeld
  by_cases q1 : v < hi
  · rw [if_pos q1, if_pos (show v ≤ hi by omega)]
    by_cases q2 : lo < v
    · rw [if_pos q2, if_pos (by omega)]
    · rw [if_neg q2]
      by_cases q3 : lo ≤ v
      · rw [if_pos q3, show lo = v by omega]
      · rw [if_neg q3]
  · rw [if_neg q1]
    by_cases q2 : v ≤ hi
    · rw [if_pos q2, if_pos (show lo ≤ v by omega), show hi = v by omega]
      by_cases q3 : lo < v
      · rw [if_pos q3]
      · rw [if_neg q3, show lo = v by omega]
    · rw [if_neg q2]
      by_cases q3 : lo < hi
      · rw [if_pos q3]
      · rw [if_neg q3, show lo = hi by omega]
/-! cells -/
theorem lc (lv : LV r (ca (40 + s))) {k : Nat} (hk : (k : Int) < r 2) (j : Int) (h0 : 0 ≤ j) (h1 : j < 7) : ca (40 + s) (36 + 7 * (k : Int) + j) = r (36 + 7 * (k : Int) + j) := lv.2.2.2.1 k j (by omega) hk h0 h1
theorem lc0 (lv : LV r (ca (40 + s))) {k : Nat} (hk : (k : Int) < r 2) : ca (40 + s) (36 + 7 * (k : Int)) = r (36 + 7 * (k : Int)) := by
  have := lc lv hk 0 (by omega) (by omega)
  rw [Int.add_zero] at this
  exact this
theorem d_isOn {k : Nat} (hs : s < 14) (lv : LV r (ca (40 + s))) (ok : rOk r) (hk : (k : Int) < r 2) : fm_X6_isOn N [.ref (cSl B s + 5 + k)] (cH h B ca cb) = some (sHas r k, cH h B ca cb) := by
  have g2 := ok.2.2.2.1
  have b := ok.1 (36 + 7 * k + 5)
  rw [en_X6_isOn, eq_X6_isOn_0, ce_g5 hs (by omega), Option.bind_some, lc lv hk 5 (by omega) (by omega), eq_X6_isOn_13, eq_X6_isOn_13]
  unfold sHas
  by_cases q : r (36 + 7 * k + 5) = -1
  · rw [if_pos (by rw [q]), if_pos rfl, decide_eq_false (fun z => z q)]
  · rw [if_neg (by rw [iI_eq ⟨by omega, by omega⟩ ⟨by omega, by omega⟩]; exact q), if_neg (by decide), if_pos rfl, decide_eq_true q]
/-- FIXED is 0 or 1 -/
def fxOk (r : Int → Int) : Prop := ∀ c : Int, 0 ≤ c → c < r 2 → r (36 + 7 * c + 2) = 0 ∨ r (36 + 7 * c + 2) = 1
theorem sFix_iff {k : Nat} (fx : fxOk r) (hk : (k : Int) < r 2) : (¬ r (36 + 7 * (k : Int) + 2) = 0) ↔ sFix r k = true := by
  unfold sFix
  rw [decide_eq_true_eq]
  have := fx k (by omega) hk
  omega
theorem d_isMoved {k : Nat} (hs : s < 14) (lv : LV r (ca (40 + s))) (ok : rOk r) (fx : fxOk r) (hk : (k : Int) < r 2) : fm_X6_isMoved N [.ref (cSl B s + 5 + k)] (cH h B ca cb) = some (!sFix r k && sHas r k, cH h B ca cb) := by
  have g2 := ok.2.2.2.1
  have b := ok.1 (36 + 7 * k + 2)
  have f := sFix_iff fx hk
  rw [en_X6_isMoved, eq_X6_isMoved_0, if_pos (ce_isc hs (by omega)), d_isOn hs lv ok hk, Option.bind_some, eq_X6_isMoved_18, eq_X6_isMoved_19, if_pos rfl]
  dsimp only
  by_cases q1 : sHas r k = true
  · rw [if_neg (by rw [q1]; exact tb1), ce_g7 hs (by omega), Option.bind_some, lc lv hk 2 (by omega) (by omega), q1, eq_X6_isMoved_19, if_neg (c := iI 1 = iI 0) (by decide), if_pos rfl]
    by_cases q2 : r (36 + 7 * k + 2) = 0
    · have q3 : sFix r k = false := by
        cases e : sFix r k with
        | false => rfl
        | true => exact absurd q2 (f.mpr e)
      rw [if_neg (fun z => z (by rw [q2])), q3]
      rfl
    · rw [if_pos (by rw [iI_eq ⟨by omega, by omega⟩ ⟨by omega, by omega⟩]; exact q2), f.mp q2]
      rfl
  · have q1' : sHas r k = false := by simpa using q1
    rw [q1', if_pos (by rfl), Bool.and_false]
theorem d_lies {k : Nat} {R S : Int} (hs : s < 14) (lv : LV r (ca (40 + s))) (ok : rOk r) (hk : (k : Int) < r 2) (hR : -2147483648 ≤ R ∧ R < 2147483648) (hS : -2147483648 ≤ S ∧ S < 2147483648) : fm_X6_lies N [.ref (cSl B s + 5 + k), .int (iI R), .int (iI S)] (cH h B ca cb) = some (sCov r R S k, cH h B ca cb) := by
  have g2 := ok.2.2.2.1
  have b0 := ok.1 (36 + 7 * k)
  have b5 := ok.1 (36 + 7 * k + 5)
  have b6 := ok.1 (36 + 7 * k + 6)
  have c0 := lc0 lv hk
  rw [en_X6_lies, eq_X6_lies_0, ce_g5 hs (by omega), Option.bind_some, lc lv hk 5 (by omega) (by omega), eq_X6_lies_34, eq_X6_lies_35, if_pos rfl]
  unfold sCov
  by_cases q1 : r (36 + 7 * k + 5) = R
  · rw [if_neg (fun z => z (by rw [q1])), ce_g6 hs (by omega), Option.bind_some, Option.bind_some, ce_g1 hs (by omega), Option.bind_some, lc lv hk 6 (by omega) (by omega), c0, iI_add, iI_sub, d_in hS (by omega) (by omega), Option.bind_some, decide_eq_true q1, Bool.true_and, eq_X6_lies_34, eq_X6_lies_35, eq_X6_lies_35, if_pos rfl, if_neg (c := iI 1 = iI 0) (by decide), if_pos rfl]
    dsimp only
    by_cases q2 : vIn S (r (36 + 7 * k + 6)) (r (36 + 7 * k + 6) + r (36 + 7 * k) - 1) = true
    · rw [if_neg (by rw [q2]; exact tb1), q2]
    · have q2' : vIn S (r (36 + 7 * k + 6)) (r (36 + 7 * k + 6) + r (36 + 7 * k) - 1) = false := by simpa using q2
      rw [q2', if_pos (by rfl)]
  · rw [if_pos (by rw [iI_eq ⟨by omega, by omega⟩ ⟨by omega, by omega⟩]; exact q1), decide_eq_false q1, Bool.false_and]
/-! rects -/
def oRect (H : ka_H) (q : Nat) (w : Nat → Int) : Prop := ka_isc H [9] q = true ∧ ∀ j, j < 5 → ka_gi H [9] q j = some (iI (w j))
theorem d_hasRow {H : ka_H} {q : Nat} {w : Nat → Int} {R : Int} (o : oRect H q w) (hR : -2147483648 ≤ R ∧ R < 2147483648) (hw : ∀ j, -1000 ≤ w j ∧ w j ≤ 1000) : fm_X8_hasRow N [.ref q, .int (iI R)] H = some (vIn R (w 0) (w 1), H) := by
  have b0 := hw 0
  have b1 := hw 1
  rw [en_X8_hasRow, eq_X8_hasRow_0, o.2 0 (by omega), Option.bind_some, o.2 1 (by omega), Option.bind_some, d_in hR (by omega) (by omega), Option.bind_some, bo_id]
theorem d_has {H : ka_H} {q : Nat} {w : Nat → Int} {R S : Int} (o : oRect H q w) (hR : -2147483648 ≤ R ∧ R < 2147483648) (hS : -2147483648 ≤ S ∧ S < 2147483648) (hw : ∀ j, -1000 ≤ w j ∧ w j ≤ 1000) : fm_X8_has N [.ref q, .int (iI R), .int (iI S)] H = some (vIn R (w 0) (w 1) && vIn S (w 2) (w 3), H) := by
  have b2 := hw 2
  have b3 := hw 3
  rw [en_X8_has, eq_X8_has_0, if_pos o.1, d_hasRow o hR hw, Option.bind_some, eq_X8_has_27, eq_X8_has_28, if_pos rfl]
  dsimp only
  by_cases q1 : vIn R (w 0) (w 1) = true
  · rw [if_neg (by rw [q1]; exact tb1), o.2 2 (by omega), Option.bind_some, o.2 3 (by omega), Option.bind_some, d_in hS (by omega) (by omega), Option.bind_some, q1, Bool.true_and, eq_X8_has_27, eq_X8_has_28, eq_X8_has_28, if_pos rfl, if_neg (c := iI 1 = iI 0) (by decide), if_pos rfl]
    dsimp only
    by_cases q2 : vIn S (w 2) (w 3) = true
    · rw [if_neg (by rw [q2]; exact tb1), q2]
    · have q2' : vIn S (w 2) (w 3) = false := by simpa using q2
      rw [q2', if_pos (by rfl)]
  · have q1' : vIn R (w 0) (w 1) = false := by simpa using q1
    rw [q1', if_pos (by rfl), Bool.false_and]
theorem d_bars {H : ka_H} {q : Nat} {w : Nat → Int} {R S : Int} (o : oRect H q w) (hR : -2147483648 ≤ R ∧ R < 2147483648) (hS : -2147483648 ≤ S ∧ S < 2147483648) (hw : ∀ j, -1000 ≤ w j ∧ w j ≤ 1000) : fm_X8_bars N [.ref q, .int (iI R), .int (iI S)] H = some (vIn R (w 0) (w 1) && vIn S (w 2 - w 4) (w 3 + w 4), H) := by
  have b2 := hw 2
  have b3 := hw 3
  have b4 := hw 4
  rw [en_X8_bars, eq_X8_bars_0, if_pos o.1, d_hasRow o hR hw, Option.bind_some, eq_X8_bars_37, eq_X8_bars_38, if_pos rfl]
  dsimp only
  by_cases q1 : vIn R (w 0) (w 1) = true
  · rw [if_neg (by rw [q1]; exact tb1), o.2 2 (by omega), Option.bind_some, o.2 4 (by omega), Option.bind_some, o.2 3 (by omega), Option.bind_some, Option.bind_some, iI_sub, iI_add, d_in hS (by omega) (by omega), Option.bind_some, q1, Bool.true_and, eq_X8_bars_37, eq_X8_bars_38, eq_X8_bars_38, if_pos rfl, if_neg (c := iI 1 = iI 0) (by decide), if_pos rfl]
    dsimp only
    by_cases q2 : vIn S (w 2 - w 4) (w 3 + w 4) = true
    · rw [if_neg (by rw [q2]; exact tb1), q2]
    · have q2' : vIn S (w 2 - w 4) (w 3 + w 4) = false := by simpa using q2
      rw [q2', if_pos (by rfl)]
  · have q1' : vIn R (w 0) (w 1) = false := by simpa using q1
    rw [q1', if_pos (by rfl), Bool.false_and]
theorem bl_o {k : Nat} (hs : s < 14) (lv : LV r (ca (40 + s))) (ok : rOk r) (hk : (k : Int) < r 0) : oRect (cH h B ca cb) (cSl B s + 73 + k) (fun j => r (4 + 5 * (k : Int) + j)) := by
  have g0 := ok.2.1
  refine ⟨bl_isc hs (by omega), ?_⟩
  intro j hj
  have l := lv.2.1 k j (by omega) hk (by omega) (by omega)
  have e : j = 0 ∨ j = 1 ∨ j = 2 ∨ j = 3 ∨ j = 4 := by omega
  rcases e with e | e | e | e | e <;> subst e
  · dsimp only; rw [bl_g0 hs (by omega), ← l]; simp
  · dsimp only; rw [bl_g1 hs (by omega), ← l]; rfl
  · dsimp only; rw [bl_g2 hs (by omega), ← l]; rfl
  · dsimp only; rw [bl_g3 hs (by omega), ← l]; rfl
  · dsimp only; rw [bl_g4 hs (by omega), ← l]; rfl
def fW (r : Int → Int) (k : Nat) (z : Int) (j : Nat) : Int := if j < 4 then r (24 + 4 * (k : Int) + j) else z
theorem fe_o {k : Nat} (hs : s < 14) (lv : LV r (ca (40 + s))) (ok : rOk r) (hk : (k : Int) < r 1) : oRect (cH h B ca cb) (cSl B s + 77 + k) (fW r k (ca (40 + s) (1000 + (k : Int)))) := by
  have g1 := ok.2.2.1
  refine ⟨fe_isc hs (by omega), ?_⟩
  intro j hj
  have l := fun (z : j < 4) => lv.2.2.1 k j (by omega) hk (by omega) (by omega)
  have e : j = 0 ∨ j = 1 ∨ j = 2 ∨ j = 3 ∨ j = 4 := by omega
  unfold fW
  rcases e with e | e | e | e | e <;> subst e
  · rw [fe_g0 hs (by omega), if_pos (by omega), ← l (by omega)]; simp
  · rw [fe_g1 hs (by omega), if_pos (by omega), ← l (by omega)]; rfl
  · rw [fe_g2 hs (by omega), if_pos (by omega), ← l (by omega)]; rfl
  · rw [fe_g3 hs (by omega), if_pos (by omega), ← l (by omega)]; rfl
  · rw [fe_g4 hs (by omega), if_neg (by omega)]
end C1
