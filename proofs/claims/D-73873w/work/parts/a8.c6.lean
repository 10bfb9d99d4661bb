/-! ===== the component: what holds of a row; cells' small methods ===== -/
def pnOk (rows sites : Int) (r : Int → Int) : Prop := ∀ n : Int, 0 ≤ n → n < r 3 → ∀ k : Int, 0 ≤ k → k < r (176 + 14 * n + 1) → 0 ≤ sWhr r n k ∧ (sWho r n k < 200 → sWhr r n k < r (36 + 7 * sWho r n k)) ∧ (200 ≤ sWho r n k → sWho r n k < 200 + rows ∧ sWhr r n k < sites)
def ndOk (r : Int → Int) : Prop := ∀ n : Int, 0 ≤ n → n < r 3 → ∀ j k : Int, 0 ≤ j → j < r (176 + 14 * n + 1) → 0 ≤ k → k < r (176 + 14 * n + 1) → sWho r n j < 200 → sWho r n j = sWho r n k → j = k
def xyOk (rows sites : Int) (r : Int → Int) : Prop := ∀ c : Int, 0 ≤ c → c < r 2 → (0 ≤ r (36 + 7 * c + 3) ∧ r (36 + 7 * c + 3) ≤ 16 * (sites - r (36 + 7 * c))) ∧ (0 ≤ r (36 + 7 * c + 4) ∧ r (36 + 7 * c + 4) ≤ 16 * (rows - 1)) ∧ (r (36 + 7 * c + 5) ≠ -1 → (0 ≤ r (36 + 7 * c + 5) ∧ r (36 + 7 * c + 5) < rows) ∧ 0 ≤ r (36 + 7 * c + 6) ∧ r (36 + 7 * c + 6) + r (36 + 7 * c) ≤ sites)
def feOk (rows sites : Int) (r : Int → Int) : Prop := ∀ f : Int, 0 ≤ f → f < r 1 → (0 ≤ r (24 + 4 * f) ∧ r (24 + 4 * f) ≤ r (24 + 4 * f + 1) ∧ r (24 + 4 * f + 1) < rows) ∧ 0 ≤ r (24 + 4 * f + 2) ∧ r (24 + 4 * f + 2) ≤ r (24 + 4 * f + 3) ∧ r (24 + 4 * f + 3) < sites
def rI (rows sites : Int) (r : Int → Int) : Prop := vOk r ∧ fxOk r ∧ fdOk r ∧ feOk rows sites r ∧ xyOk rows sites r ∧ pnOk rows sites r ∧ ndOk r
def cI (r : Int → Int) (ca : Nat → Int → Int) (s : Nat) : Prop := s < 14 ∧ ca 32 0 = s ∧ LV r (ca (40 + s)) ∧ gB (ca (40 + s)) ∧ (1 ≤ ca 30 0 ∧ ca 30 0 ≤ 8) ∧ (8 ≤ ca 30 1 ∧ ca 30 1 ≤ 32) ∧ tmOk (ca 1) ∧ rI (ca 30 0) (ca 30 1) r
/-- a row changes in the chip -/
theorem cI_up {r r' g : Int → Int} {ca : Nat → Int → Int} {s : Nat} (I : cI r ca s) (lv : LV r' g) (b : gB g) (i : rI (ca 30 0) (ca 30 1) r') : cI r' (mA ca (40 + s) g) s := by
  have n : ∀ p, p < 40 → mA ca (40 + s) g p = ca p := fun p hp => mA_n (by omega)
  refine ⟨I.1, ?_, ?_, ?_, ?_, ?_, ?_, ?_⟩
  · rw [n 32 (by omega)]; exact I.2.1
  · rw [mA_2]; exact lv
  · rw [mA_2]; exact b
  · rw [n 30 (by omega)]; exact I.2.2.2.2.1
  · rw [n 30 (by omega)]; exact I.2.2.2.2.2.1
  · rw [n 1 (by omega)]; exact I.2.2.2.2.2.2.1
  · rw [n 30 (by omega)]; exact i
/-- what else changes doesn't matter -/
theorem cI_eq {r : Int → Int} {ca ca' : Nat → Int → Int} {s : Nat} (I : cI r ca s) (e1 : ca' 1 = ca 1) (e30 : ca' 30 0 = ca 30 0) (e31 : ca' 30 1 = ca 30 1) (e32 : ca' 32 0 = ca 32 0) (e40 : ca' (40 + s) = ca (40 + s)) : cI r ca' s := by
  refine ⟨I.1, ?_, ?_, ?_, ?_, ?_, ?_, ?_⟩
  · rw [e32]; exact I.2.1
  · rw [e40]; exact I.2.2.1
  · rw [e40]; exact I.2.2.2.1
  · rw [e30]; exact I.2.2.2.2.1
  · rw [e31]; exact I.2.2.2.2.2.1
  · rw [e1]; exact I.2.2.2.2.2.2.1
  · rw [e30, e31]; exact I.2.2.2.2.2.2.2
section C6
variable {N : Nat} {h : ka_H} {B : Nat} {ca : Nat → Int → Int} {cb : Value} {r : Int → Int} {s : Nat}
theorem ob_c (I : cI r ca s) : ka_gr (cH h B ca cb) [0] B 5 = some (cSl B s) := by
  rw [ob_r5, I.2.1]
  simp
theorem d_mostX {k : Nat} (hs : s < 14) (hk : k < 20) : fm_X6_mostX N [.ref (cSl B s + 5 + k)] (cH h B ca cb) = some (iI (16 * (ca 30 1 - ca (40 + s) (36 + 7 * (k : Int)))), cH h B ca cb) := by
  rw [en_X6_mostX, eq_X6_mostX_0, ce_r8 hs hk, Option.bind_some, ob_g1, Option.bind_some, ce_g1 hs hk, Option.bind_some, iI_sub, iI_mul]
theorem d_mostY {k : Nat} (hs : s < 14) (hk : k < 20) : fm_X6_mostY N [.ref (cSl B s + 5 + k)] (cH h B ca cb) = some (iI (16 * (ca 30 0 - 1)), cH h B ca cb) := by
  rw [en_X6_mostY, eq_X6_mostY_0, ce_r8 hs hk, Option.bind_some, ob_g0, Option.bind_some, iI_sub, iI_mul]
/-- a cell begins -/
def gBg (rows sites : Int) (g : Int → Int) (k w f : Int) : Int → Int := rGive (rU (rU (rU (rU (rU g (36 + 7 * k) w) (36 + 7 * k + 1) f) (36 + 7 * k + 2) 0) (36 + 7 * k + 3) (16 * (sites - w) / 2)) (36 + 7 * k + 4) (16 * (rows - 1) / 2)) k (-1) (-1)
theorem d_begins {k : Nat} {w f : Int} (hs : s < 14) (hk : k < 20) (z0 : 1 ≤ ca 30 0 ∧ ca 30 0 ≤ 8) (z1 : 8 ≤ ca 30 1 ∧ ca 30 1 ≤ 32) (hw : 1 ≤ w ∧ w ≤ 6) : fm_X6_begins N [.ref (cSl B s + 5 + k), .int (iI w), .int (iI f)] (cH h B ca cb) = some (cH h B (mA ca (40 + s) (gBg (ca 30 0) (ca 30 1) (ca (40 + s)) k w f)) cb) := by
  have e1 : ∀ y, mA ca (40 + s) y (40 + s) = y := fun y => mA_2 _ _ _
  have e2 : ∀ y, mA ca (40 + s) y 30 = ca 30 := fun y => mA_n (by omega)
  rw [en_X6_begins, eq_X6_begins_0, ce_p1 hs hk, Option.bind_some, ce_p2 hs hk, Option.bind_some, e1, mA_mA, if_pos (Or.inl rfl), ce_p7 hs hk, Option.bind_some, e1, mA_mA, if_pos (ce_isc hs hk), d_mostX hs hk, Option.bind_some, e1, e2, rU_n (by omega), rU_n (by omega), rU_s, if_neg (c := iI 2 = iI 0) (by decide)]
  dsimp only
  rw [iI_dv (by omega) (by omega), ce_p3 hs hk, Option.bind_some, e1, mA_mA, if_pos (ce_isc hs hk), d_mostY hs hk, Option.bind_some, e2, if_neg (c := iI 2 = iI 0) (by decide)]
  dsimp only
  rw [iI_dv (by omega) (by omega), ce_p4 hs hk, Option.bind_some, e1, mA_mA, if_pos (ce_isc hs hk), d_leaves hs hk, Option.bind_some, e1, mA_mA]
  rfl
theorem d_isLike {j k : Nat} (I : cI r ca s) (hj : (j : Int) < r 2) (hk : (k : Int) < r 2) : fm_X6_isLike N [.ref (cSl B s + 5 + j), .ref (cSl B s + 5 + k)] (cH h B ca cb) = some (decide (r (36 + 7 * (j : Int)) = r (36 + 7 * (k : Int))) && decide (r (36 + 7 * (j : Int) + 1) = r (36 + 7 * (k : Int) + 1)), cH h B ca cb) := by
  have hs := I.1
  have lv := I.2.2.1
  have ok := I.2.2.2.2.2.2.2.1.1
  have g2 := ok.2.2.2.1
  have a0 := ok.1 (36 + 7 * j)
  have a1 := ok.1 (36 + 7 * j + 1)
  have b0 := ok.1 (36 + 7 * k)
  have b1 := ok.1 (36 + 7 * k + 1)
  rw [en_X6_isLike, eq_X6_isLike_0, ce_g1 hs (by omega), Option.bind_some, ce_g1 hs (by omega), Option.bind_some, lc0 lv hj, lc0 lv hk, eq_X6_isLike_26, eq_X6_isLike_27, if_pos rfl]
  by_cases q1 : r (36 + 7 * (j : Int)) = r (36 + 7 * (k : Int))
  · rw [if_neg (fun z => z (by rw [q1])), ce_g2 hs (by omega), Option.bind_some, ce_g2 hs (by omega), Option.bind_some, lc lv hj 1 (by omega) (by omega), lc lv hk 1 (by omega) (by omega), decide_eq_true q1, Bool.true_and, eq_X6_isLike_27, if_neg (c := iI 1 = iI 0) (by decide), if_pos rfl]
    by_cases q2 : r (36 + 7 * (j : Int) + 1) = r (36 + 7 * (k : Int) + 1)
    · rw [if_neg (fun z => z (by rw [q2])), decide_eq_true q2]
    · rw [if_pos (by rw [iI_eq ⟨by omega, by omega⟩ ⟨by omega, by omega⟩]; exact q2), decide_eq_false q2]
  · rw [if_pos (by rw [iI_eq ⟨by omega, by omega⟩ ⟨by omega, by omega⟩]; exact q1), decide_eq_false q1, Bool.false_and]
theorem abs_far (x y : Int) : (if 0 ≤ x - y then x - y else -(x - y)) = sFar x y := by
  unfold sFar
  split <;> split <;> omega
theorem d_farAt {k : Nat} {S : Int} (I : cI r ca s) (hk : (k : Int) < r 2) (hS : -10000 ≤ S ∧ S ≤ 10000) : fm_X6_farAt N [.ref (cSl B s + 5 + k), .int (iI S)] (cH h B ca cb) = some (iI (r (36 + 7 * (k : Int)) * sFar (16 * S) (r (36 + 7 * (k : Int) + 3))), cH h B ca cb) := by
  have hs := I.1
  have lv := I.2.2.1
  have ok := I.2.2.2.2.2.2.2.1.1
  have g2 := ok.2.2.2.1
  have a3 := ok.1 (36 + 7 * k + 3)
  rw [en_X6_farAt, eq_X6_farAt_0, ce_g1 hs (by omega), Option.bind_some, ce_g3 hs (by omega), Option.bind_some, iI_mul, iI_sub, lc0 lv hk, lc lv hk 3 (by omega) (by omega), d_abs (by omega), Option.bind_some, abs_far, iI_mul]
theorem d_highAt {k : Nat} {R : Int} (I : cI r ca s) (hk : (k : Int) < r 2) (hR : -10000 ≤ R ∧ R ≤ 10000) : fm_X6_highAt N [.ref (cSl B s + 5 + k), .int (iI R)] (cH h B ca cb) = some (iI (r (36 + 7 * (k : Int)) * ca 1 4 * sFar (16 * R) (r (36 + 7 * (k : Int) + 4))), cH h B ca cb) := by
  have hs := I.1
  have lv := I.2.2.1
  have ok := I.2.2.2.2.2.2.2.1.1
  have g2 := ok.2.2.2.1
  have a3 := ok.1 (36 + 7 * k + 4)
  rw [en_X6_highAt, eq_X6_highAt_0, ce_g1 hs (by omega), Option.bind_some, ce_r8 hs (by omega), Option.bind_some, ob_r4, Option.bind_some, tm_l (by omega) (by omega), Option.bind_some, ce_g4 hs (by omega), Option.bind_some, iI_mul, iI_sub, lc0 lv hk, lc lv hk 4 (by omega) (by omega), d_abs (by omega), Option.bind_some, abs_far, iI_mul, iI_mul]
theorem d_move {k : Nat} (I : cI r ca s) (hk : (k : Int) < r 2) : fm_X6_move N [.ref (cSl B s + 5 + k)] (cH h B ca cb) = some (iI (if sHas r k = true then sMove (ca 1 4) r k else 0), cH h B ca cb) := by
  have hs := I.1
  have lv := I.2.2.1
  have ok := I.2.2.2.2.2.2.2.1.1
  have g2 := ok.2.2.2.1
  have b5 := ok.1 (36 + 7 * k + 5)
  have b6 := ok.1 (36 + 7 * k + 6)
  rw [en_X6_move, eq_X6_move_0, if_pos (ce_isc hs (by omega)), d_isOn hs lv ok hk, Option.bind_some, eq_X6_move_28]
  dsimp only
  by_cases q : sHas r k = true
  · rw [if_neg (c := (if sHas r k = true then iI 1 else iI 0) = iI 0) (by rw [q]; exact tb1), if_pos q, ce_g6 hs (by omega), Option.bind_some, if_pos (ce_isc hs (by omega)), lc lv hk 6 (by omega) (by omega), d_farAt I hk (by omega), Option.bind_some, ce_g5 hs (by omega), Option.bind_some, if_pos (ce_isc hs (by omega)), lc lv hk 5 (by omega) (by omega), d_highAt I hk (by omega), Option.bind_some, eq_X6_move_28, iI_add]
    unfold sMove
    rw [Int.mul_add, ← Int.mul_assoc]
  · have q' : sHas r k = false := by simpa using q
    rw [q', if_pos (by rfl), if_neg (c := false = true) (by decide)]
theorem d_heldX {k : Nat} {x : Int} (I : cI r ca s) (hk : (k : Int) < r 2) (hx : -100000000 ≤ x ∧ x ≤ 100000000) : fm_X6_heldX N [.ref (cSl B s + 5 + k), .int (iI x)] (cH h B ca cb) = some (iI (sHX (ca 30 1) r k x), cH h B ca cb) := by
  have hs := I.1
  have lv := I.2.2.1
  have v := I.2.2.2.2.2.2.2.1
  have ok := v.1
  have g1 := ok.2.2.1
  have g2 := ok.2.2.2.1
  have z1 := I.2.2.2.2.2.1
  have w := ok.2.2.2.2.2 k (by omega) hk
  have f := v.2.2.1 k (by omega) hk
  have b2 := ok.1 (24 + 4 * r (36 + 7 * k + 1) + 2)
  have b3 := ok.1 (24 + 4 * r (36 + 7 * k + 1) + 3)
  rw [en_X6_heldX, eq_X6_heldX_0, ce_g2 hs (by omega), Option.bind_some, lc lv hk 1 (by omega) (by omega)]
  unfold sHX
  by_cases q : r (36 + 7 * (k : Int) + 1) = -1
  · rw [if_neg (fun z => z (by rw [q])), if_pos (ce_isc hs (by omega)), d_mostX hs (by omega), Option.bind_some, lc0 lv hk]
    dsimp only
    rw [d_bound (by omega) (by omega) (by omega) (by omega), Option.bind_some, if_pos q]
  · obtain ⟨m, em⟩ : ∃ m : Nat, r (36 + 7 * (k : Int) + 1) = m := ⟨(r (36 + 7 * (k : Int) + 1)).toNat, by omega⟩
    have l2 := lv.2.2.1 m 2 (by omega) (by omega) (by omega) (by omega)
    have l3 := lv.2.2.1 m 3 (by omega) (by omega) (by omega) (by omega)
    rw [em] at b2 b3
    have em' : ∀ y : Int, (if 16 * r (24 + 4 * (m : Int) + 2) < 16 * (r (24 + 4 * (m : Int) + 3) + 1 - r (36 + 7 * (k : Int))) then 16 * (r (24 + 4 * (m : Int) + 3) + 1 - r (36 + 7 * (k : Int))) else 16 * r (24 + 4 * (m : Int) + 2)) = 16 * (if r (24 + 4 * (m : Int) + 2) ≤ r (24 + 4 * (m : Int) + 3) - r (36 + 7 * (k : Int)) + 1 then r (24 + 4 * (m : Int) + 3) - r (36 + 7 * (k : Int)) + 1 else r (24 + 4 * (m : Int) + 2)) := by
      intro y
      split <;> split <;> omega
    have hb : sHeld x (16 * r (24 + 4 * (m : Int) + 2)) (16 * (if r (24 + 4 * (m : Int) + 2) ≤ r (24 + 4 * (m : Int) + 3) - r (36 + 7 * (k : Int)) + 1 then r (24 + 4 * (m : Int) + 3) - r (36 + 7 * (k : Int)) + 1 else r (24 + 4 * (m : Int) + 2))) = sHX0 r k x := by
      unfold sHX0
      rw [em]
    have hbb := sHeld_b (v := x) (lo := 16 * r (24 + 4 * (m : Int) + 2)) (hi := 16 * (if r (24 + 4 * (m : Int) + 2) ≤ r (24 + 4 * (m : Int) + 3) - r (36 + 7 * (k : Int)) + 1 then r (24 + 4 * (m : Int) + 3) - r (36 + 7 * (k : Int)) + 1 else r (24 + 4 * (m : Int) + 2))) (by split <;> omega)
    have ub : (16 * (if r (24 + 4 * (m : Int) + 2) ≤ r (24 + 4 * (m : Int) + 3) - r (36 + 7 * (k : Int)) + 1 then r (24 + 4 * (m : Int) + 3) - r (36 + 7 * (k : Int)) + 1 else r (24 + 4 * (m : Int) + 2))) ≤ 16000 := by split <;> omega
    rw [if_pos (by rw [iI_eq ⟨by omega, by omega⟩ ⟨by omega, by omega⟩]; exact q), ce_r8 hs (by omega), Option.bind_some, ob_c I, Option.bind_some, ch_r3 hs, Option.bind_some, Option.bind_some, em, ch_fen hs (by omega), Option.bind_some, fe_g2 hs (by omega), Option.bind_some, fe_g3 hs (by omega), Option.bind_some, ce_g1 hs (by omega), Option.bind_some, lc0 lv hk, l2, l3, iI_mul, iI_add, iI_sub, iI_mul, d_max (by omega) (by omega), Option.bind_some, em' 0]
    dsimp only
    rw [d_bound (by omega) (by omega) (by omega) (by omega), Option.bind_some, if_pos (ce_isc hs (by omega)), d_mostX hs (by omega), Option.bind_some, lc0 lv hk]
    dsimp only
    rw [hb] at hbb ⊢
    rw [d_bound (by omega) (by omega) (by omega) (by omega), Option.bind_some, if_neg (by omega)]
theorem d_heldY {k : Nat} {y : Int} (I : cI r ca s) (hk : (k : Int) < r 2) (hy : -100000000 ≤ y ∧ y ≤ 100000000) : fm_X6_heldY N [.ref (cSl B s + 5 + k), .int (iI y)] (cH h B ca cb) = some (iI (sHY (ca 30 0) r k y), cH h B ca cb) := by
  have hs := I.1
  have lv := I.2.2.1
  have v := I.2.2.2.2.2.2.2.1
  have fe := I.2.2.2.2.2.2.2.2.2.2.1
  have ok := v.1
  have g1 := ok.2.2.1
  have g2 := ok.2.2.2.1
  have z0 := I.2.2.2.2.1
  have f := v.2.2.1 k (by omega) hk
  rw [en_X6_heldY, eq_X6_heldY_0, ce_g2 hs (by omega), Option.bind_some, lc lv hk 1 (by omega) (by omega)]
  unfold sHY
  by_cases q : r (36 + 7 * (k : Int) + 1) = -1
  · rw [if_neg (fun z => z (by rw [q])), if_pos (ce_isc hs (by omega)), d_mostY hs (by omega), Option.bind_some]
    dsimp only
    rw [d_bound (by omega) (by omega) (by omega) (by omega), Option.bind_some, if_pos q, eq_X6_heldY_66]
  · obtain ⟨m, em⟩ : ∃ m : Nat, r (36 + 7 * (k : Int) + 1) = m := ⟨(r (36 + 7 * (k : Int) + 1)).toNat, by omega⟩
    have l0 := lv.2.2.1 m 0 (by omega) (by omega) (by omega) (by omega)
    have l1 := lv.2.2.1 m 1 (by omega) (by omega) (by omega) (by omega)
    rw [Int.add_zero] at l0
    have fm := fe m (by omega) (by omega)
    have hbb := sHeld_b (v := y) (lo := 16 * r (24 + 4 * (m : Int))) (hi := 16 * r (24 + 4 * (m : Int) + 1)) (by omega)
    rw [if_pos (by rw [iI_eq ⟨by omega, by omega⟩ ⟨by omega, by omega⟩]; exact q), ce_r8 hs (by omega), Option.bind_some, ob_c I, Option.bind_some, ch_r3 hs, Option.bind_some, Option.bind_some, em, ch_fen hs (by omega), Option.bind_some, fe_g0 hs (by omega), Option.bind_some, Option.bind_some, ob_c I, Option.bind_some, ch_r3 hs, Option.bind_some, Option.bind_some, ch_fen hs (by omega), Option.bind_some, fe_g1 hs (by omega), Option.bind_some, l0, l1, iI_mul, iI_mul, d_bound (by omega) (by omega) (by omega) (by omega), Option.bind_some, if_neg (by omega), eq_X6_heldY_66]
    dsimp only
    congr 2
    unfold sHeld at hbb ⊢
    repeat' split
    all_goals first | rfl | omega | (congr 1; omega)
end C6
