/-! ===== the model: like cells exchanged ===== -/
theorem sSpan_b {tall : Int} {r : Int → Int} {n : Int} (ht : 1 ≤ tall ∧ tall ≤ 8) (ok : rOk r) (nk : nOk r) (h0 : 0 ≤ n) (h1 : n < r 3) : 0 ≤ sSpan tall r n ∧ sSpan tall r n ≤ 540000 := by
  obtain ⟨k1, k2⟩ := nk n h0 h1
  have one : ∀ up, 0 ≤ sGr r true up n - sLe r true up n ∧ sGr r true up n - sLe r true up n ≤ 60000 := by
    intro up
    obtain ⟨j, h3, h4⟩ := aMx_at (f := fun k : Nat => sPin r true up n k) (z := -100000000) (n := (r (176 + 14 * n + 1)).toNat) (by omega) (fun k _ => by have := sPin_b ok.1 true up n k; omega)
    obtain ⟨j', h3', h4'⟩ := aMn_at (f := fun k : Nat => sPin r true up n k) (z := 100000000) (n := (r (176 + 14 * n + 1)).toNat) (by omega) (fun k _ => by have := sPin_b ok.1 true up n k; omega)
    have b1 := sPin_b ok.1 true up n j
    have b2 := sPin_b ok.1 true up n j'
    have g1 : sGr r true up n = sPin r true up n j := h4
    have g2 : sLe r true up n = sPin r true up n j' := h4'
    have g3 : sPin r true up n j' ≤ sGr r true up n := aMx_ge (f := fun k : Nat => sPin r true up n k) (z := -100000000) h3'
    omega
  have a1 := one false
  have a2 := one true
  have a3 := mul_b (x := tall) (X := 8) (y := sGr r true true n - sLe r true true n) (Y := 60000) (by omega) (by omega) a2.1 a2.2
  unfold sSpan
  omega
theorem sWire_b {tall : Int} {r : Int → Int} (ht : 1 ≤ tall ∧ tall ≤ 8) (v : vOk r) : 0 ≤ sWire tall r ∧ sWire tall r ≤ 77760000 := by
  have g3 := v.1.2.2.2.2.1
  have := aS_b (f := fun n : Nat => r (176 + 14 * n) * sSpan tall r n) (lo := 0) (hi := 4860000) (n := (r 3).toNat) (fun k hk => by
    have w := v.2.2.2 k (by omega) (by omega)
    have s := sSpan_b (n := k) ht v.1 v.2.1 (by omega) (by omega)
    exact mul_b (by omega) w.2 s.1 s.2)
  unfold sWire
  omega
def sLike (r : Int → Int) (a b : Nat) : Bool := ((!sFix r a && sHas r a) && (!sFix r b && sHas r b)) && (decide (r (36 + 7 * a) = r (36 + 7 * b)) && decide (r (36 + 7 * a + 1) = r (36 + 7 * b + 1)))
def rExch (r : Int → Int) (a b : Int) : Int → Int := rGive (rGive r a (r (36 + 7 * b + 5)) (r (36 + 7 * b + 6))) b (r (36 + 7 * a + 5)) (r (36 + 7 * a + 6))
theorem rExch_exch {r : Int → Int} {a b : Int} (h : a ≠ b) : rExch (rExch r a b) a b = r := by
  funext j
  unfold rExch
  have e1 : ∀ (q : Int → Int) (x y z w : Int), rGive (rGive q a x y) b z w (36 + 7 * a + 5) = x := by
    intro q x y z w
    rw [rGive_n (by omega) (by omega), rGive_row]
  have e2 : ∀ (q : Int → Int) (x y z w : Int), rGive (rGive q a x y) b z w (36 + 7 * a + 6) = y := by
    intro q x y z w
    rw [rGive_n (by omega) (by omega), rGive_site]
  have e3 : ∀ (q : Int → Int) (x y z w : Int), rGive (rGive q a x y) b z w (36 + 7 * b + 5) = z := by
    intro q x y z w
    rw [rGive_row]
  have e4 : ∀ (q : Int → Int) (x y z w : Int), rGive (rGive q a x y) b z w (36 + 7 * b + 6) = w := by
    intro q x y z w
    rw [rGive_site]
  by_cases j1 : j = 36 + 7 * a + 5
  · subst j1; rw [e1, e3]
  · by_cases j2 : j = 36 + 7 * a + 6
    · subst j2; rw [e2, e4]
    · by_cases j3 : j = 36 + 7 * b + 5
      · subst j3; rw [e3, e1]
      · by_cases j4 : j = 36 + 7 * b + 6
        · subst j4; rw [e4, e2]
        · rw [rGive_n j3 j4, rGive_n j1 j2, rGive_n j3 j4, rGive_n j1 j2]
theorem vOk_exch {r : Int → Int} {a b : Int} (v : vOk r) (ha : 0 ≤ a ∧ a < 20) (hb : 0 ≤ b ∧ b < 20) : vOk (rExch r a b) := vOk_give (vOk_give v ha.1 ha.2 (v.1.1 _) (v.1.1 _)) hb.1 hb.2 (v.1.1 _) (v.1.1 _)
theorem sameX_exch {r : Int → Int} {a b : Int} (ha : 0 ≤ a ∧ a < 20) (hb : 0 ≤ b ∧ b < 20) : sameX r (rExch r a b) := sameX_t (sameX_give ha.1 ha.2) (sameX_give hb.1 hb.2)
/-- exchanged, if that is better -/
def rSw1 (tall : Int) (r : Int → Int) (a b : Nat) : Int → Int := if sLike r a b = true ∧ sWire tall (rExch r a b) < sWire tall r then rExch r a b else r
def rSwB (tall : Int) (r : Int → Int) (a : Nat) : Nat → Int → Int
  | 0 => r
  | n + 1 => rSw1 tall (rSwB tall r a n) a (a + 1 + n)
def rSwA (tall : Int) (r : Int → Int) : Nat → Int → Int
  | 0 => r
  | a + 1 => rSwB tall (rSwA tall r a) a ((r 2).toNat - (a + 1))
theorem rSw1_ok {tall : Int} {r : Int → Int} {a b : Nat} (v : vOk r) (ha : a < 20) (hb : b < 20) : vOk (rSw1 tall r a b) ∧ sameX r (rSw1 tall r a b) := by
  unfold rSw1
  split
  · exact ⟨vOk_exch v (by omega) (by omega), sameX_exch (by omega) (by omega)⟩
  · exact ⟨v, sameX_r r⟩
theorem rSwB_ok {tall : Int} {r : Int → Int} {a : Nat} (v : vOk r) (n : Nat) (h : a + 1 + n ≤ 20) : vOk (rSwB tall r a n) ∧ sameX r (rSwB tall r a n) := by
  induction n with
  | zero => exact ⟨v, sameX_r r⟩
  | succ n ih =>
    obtain ⟨i1, i2⟩ := ih (by omega)
    have := rSw1_ok (tall := tall) (a := a) (b := a + 1 + n) i1 (by omega) (by omega)
    exact ⟨this.1, sameX_t i2 this.2⟩
theorem rSwA_ok {tall : Int} {r : Int → Int} (v : vOk r) (n : Nat) (h : (n : Int) ≤ r 2) : vOk (rSwA tall r n) ∧ sameX r (rSwA tall r n) := by
  have g2 := v.1.2.2.2.1
  induction n with
  | zero => exact ⟨v, sameX_r r⟩
  | succ n ih =>
    obtain ⟨i1, i2⟩ := ih (by omega)
    have := rSwB_ok (tall := tall) (a := n) i1 ((r 2).toNat - (n + 1)) (by omega)
    exact ⟨this.1, sameX_t i2 this.2⟩
section M41
variable {N : Nat} {h : ka_H} {a : Nat} {mf : Nat → Int} {ma : Nat → Int → Int}
theorem c_wireV {r : Int → Int} (hN : 5000 ≤ N) (v : vOk r) : fm_X9_wire N [.ref a] (mH h a mf (mA ma 2 r)) = some (iI (sWire (ma 1 4) r), mH h a mf (mA ma 2 r)) := by
  have := c_wire (N := N) (h := h) (a := a) (mf := mf) (ma := mA ma 2 r) hN (by rw [mA_2]; exact v.1) (by rw [mA_2]; exact v.2.1)
  rw [mA_2, mA_n (by decide)] at this
  exact this
theorem c_areLike {x y : Nat} (ok : rOk (ma 2)) (hx : x < 20) (hy : y < 20) : fm_X9_areLike N [.ref a, .int (iI x), .int (iI y)] (mH h a mf ma) = some (sLike (ma 2) x y, mH h a mf ma) := by
  have b1 := ok.1 (36 + 7 * x)
  have b2 := ok.1 (36 + 7 * y)
  have b3 := ok.1 (36 + 7 * x + 1)
  have b4 := ok.1 (36 + 7 * y + 1)
  have c1 := c_isMoving (N := N) (h := h) (a := a) (mf := mf) (ma := ma) (c := x) hx ok.1
  have c2 := c_isMoving (N := N) (h := h) (a := a) (mf := mf) (ma := ma) (c := y) hy ok.1
  have c3 := c_width (N := N) (h := h) (a := a) (mf := mf) (ma := ma) (c := x) (by omega) (by omega)
  have c4 := c_width (N := N) (h := h) (a := a) (mf := mf) (ma := ma) (c := y) (by omega) (by omega)
  have c5 := c_fenceOf (N := N) (h := h) (a := a) (mf := mf) (ma := ma) (c := x) (by omega) (by omega)
  have c6 := c_fenceOf (N := N) (h := h) (a := a) (mf := mf) (ma := ma) (c := y) (by omega) (by omega)
  rw [en_X9_areLike, eq_X9_areLike_0, if_pos m_isc, c1, Option.bind_some]
  dsimp only
  unfold sLike
  generalize (!sFix (ma 2) x && sHas (ma 2) x) = p1
  by_cases q1 : p1 = true
  · subst q1
    rw [if_neg tb1, if_pos m_isc, c2, Option.bind_some]
    dsimp only
    generalize (!sFix (ma 2) y && sHas (ma 2) y) = p2
    by_cases q2 : p2 = true
    · subst q2
      rw [if_neg tb1, if_pos m_isc, c3, Option.bind_some]
      dsimp only
      rw [if_pos m_isc, c4, Option.bind_some]
      dsimp only
      by_cases q3 : ma 2 (36 + 7 * x) = ma 2 (36 + 7 * y)
      · rw [if_neg (fun z => z (by rw [q3])), if_pos m_isc, c5, Option.bind_some]
        dsimp only
        rw [if_pos m_isc, c6, Option.bind_some]
        dsimp only
        by_cases q4 : ma 2 (36 + 7 * x + 1) = ma 2 (36 + 7 * y + 1)
        · rw [if_neg (fun z => z (by rw [q4])), eq_X9_areLike_47, if_neg (by decide), if_pos rfl, decide_eq_true q3, decide_eq_true q4]
          rfl
        · rw [if_pos (by rw [iI_eq ⟨by omega, by omega⟩ ⟨by omega, by omega⟩]; exact q4), eq_X9_areLike_46, eq_X9_areLike_47, if_pos rfl, decide_eq_true q3, decide_eq_false q4]
          rfl
      · rw [if_pos (by rw [iI_eq ⟨by omega, by omega⟩ ⟨by omega, by omega⟩]; exact q3), eq_X9_areLike_46, eq_X9_areLike_47, if_pos rfl, decide_eq_false q3]
        rfl
    · have q2' : p2 = false := by simpa using q2
      subst q2'
      rw [if_pos (by rfl), eq_X9_areLike_46, eq_X9_areLike_47, if_pos rfl]
      rfl
  · have q1' : p1 = false := by simpa using q1
    subst q1'
    rw [if_pos (by rfl), eq_X9_areLike_46, eq_X9_areLike_47, if_pos rfl]
    rfl
theorem c_exchangeSpots {x y : Int} (hx : 0 ≤ x ∧ x < 20) (hy : 0 ≤ y ∧ y < 20) : fm_X9_exchangeSpots N [.ref a, .int (iI x), .int (iI y)] (mH h a mf ma) = some (mH h a mf (mA ma 2 (rExch (ma 2) x y))) := by
  rw [en_X9_exchangeSpots, eq_X9_exchangeSpots_0, m_r6, Option.bind_some, c_cellAt, Option.bind_some]
  dsimp only
  rw [iI_add, m_l6 (by omega) (by omega), Option.bind_some, m_r6, Option.bind_some, c_cellAt, Option.bind_some]
  dsimp only
  rw [iI_add, m_l6 (by omega) (by omega), Option.bind_some, m_r6, Option.bind_some, c_cellAt, Option.bind_some]
  dsimp only
  rw [iI_add, m_l6 (by omega) (by omega), Option.bind_some, m_r6, Option.bind_some, c_cellAt, Option.bind_some]
  dsimp only
  rw [iI_add, m_l6 (by omega) (by omega), Option.bind_some, if_pos m_isc, c_give hx.1 hx.2, Option.bind_some, if_pos m_isc, c_give hy.1 hy.2, Option.bind_some, mA_2, mA_mA]
  rfl
theorem c_swaps32 {x : Nat} {had : Int} {r : Int → Int} (K18 : ka_K (Int32 × ka_H)) (hN : 5000 ≤ N) (v : vOk r) (tm : tmOk (ma 1)) (hx : (x : Int) < r 2) :
    ki_fix (cm_X9_swaps_32 N K18) N [some (.ref a), some (.int (iI had)), some (.int (iI x)), some (.int (iI ((x : Int) + 1)))] [] (mH h a mf (mA ma 2 r)) = K18 [some (.ref a), some (.int (iI had)), some (.int (iI ((x : Int) + 1)))] [] (mH h a mf (mA ma 2 (rSwB (ma 1 4) r x ((r 2).toNat - (x + 1))))) := by
  have g2 := v.1.2.2.2.1
  have t4 := tm.2.2.2.2.1
  have key := fix_up (B := cm_X9_swaps_32 N K18) (R := K18 [some (.ref a), some (.int (iI had)), some (.int (iI ((x : Int) + 1)))] [] (mH h a mf (mA ma 2 (rSwB (ma 1 4) r x ((r 2).toNat - (x + 1)))))) (fun i => [some (.ref a), some (.int (iI had)), some (.int (iI x)), some (.int (iI ((x : Int) + 1 + i)))]) (fun i => mH h a mf (mA ma 2 (rSwB (ma 1 4) r x i))) ((r 2).toNat - (x + 1)) ?_ ?_ N 0 (by omega) (by omega)
  · simp only [rSwB, Int.natCast_zero, Int.add_zero] at key
    exact key
  · intro K
    obtain ⟨o1, o2⟩ := rSwB_ok (tall := ma 1 4) (a := x) v ((r 2).toNat - (x + 1)) (by omega)
    rw [eq_X9_swaps_32, m_r6, Option.bind_some, m_l6 (by omega) (by omega), Option.bind_some, mA_2, o2 2 (by omega), if_pos ((iI_le ⟨by omega, by omega⟩ ⟨by omega, by omega⟩).mpr (by omega)), iI_add]
  · intro K i hi
    obtain ⟨o1, o2⟩ := rSwB_ok (tall := ma 1 4) (a := x) v i (by omega)
    have e2 := o2 2 (by omega)
    rw [rSwB]
    generalize rSwB (ma 1 4) r x i = q at o1 o2 e2
    have ey : (x : Int) + 1 + i = ((x + 1 + i : Nat) : Int) := by omega
    have cl := c_areLike (N := N) (h := h) (a := a) (mf := mf) (ma := mA ma 2 q) (x := x) (y := x + 1 + i) (by rw [mA_2]; exact o1.1) (by omega) (by omega)
    rw [mA_2] at cl
    have ve := vOk_exch (a := x) (b := ((x + 1 + i : Nat) : Int)) o1 (by omega) (by omega)
    have w1 := c_wireV (N := N) (h := h) (a := a) (mf := mf) (ma := ma) hN o1
    have w2 := c_wireV (N := N) (h := h) (a := a) (mf := mf) (ma := ma) hN ve
    have b1 := sWire_b t4 o1
    have b2 := sWire_b t4 ve
    have ei : (x : Int) + 1 + ((i + 1 : Nat) : Int) = ((x + 1 + i : Nat) : Int) + 1 := by omega
    rw [eq_X9_swaps_32, m_r6, Option.bind_some, m_l6 (by omega) (by omega), Option.bind_some, mA_2, e2, if_neg (fun z => by have := (iI_le ⟨by omega, by omega⟩ ⟨by omega, by omega⟩).mp z; omega), ey, if_pos m_isc, cl, Option.bind_some, ei]
    dsimp only
    unfold rSw1
    by_cases q1 : sLike q x (x + 1 + i) = true
    · rw [if_neg (by rw [q1]; exact tb1), if_pos m_isc, w1, Option.bind_some]
      dsimp only
      rw [if_pos m_isc, c_exchangeSpots (by omega) (by omega), Option.bind_some, mA_2, mA_mA, if_pos m_isc, w2, Option.bind_some]
      dsimp only
      by_cases q2 : sWire (ma 1 4) (rExch q x ((x + 1 + i : Nat) : Int)) < sWire (ma 1 4) q
      · rw [if_pos ((iI_lt ⟨by omega, by omega⟩ ⟨by omega, by omega⟩).mpr q2), if_pos (And.intro q1 q2), eq_X9_swaps_78, iI_add]
      · rw [if_neg (fun z => q2 ((iI_lt ⟨by omega, by omega⟩ ⟨by omega, by omega⟩).mp z)), if_pos m_isc, c_exchangeSpots (by omega) (by omega), Option.bind_some, mA_2, mA_mA, rExch_exch (by omega), eq_X9_swaps_78, iI_add, if_neg (fun z => q2 z.2)]
    · rw [if_pos (by simp [q1]), if_neg (fun z => q1 z.1), eq_X9_swaps_78, iI_add]
theorem c_swaps (hN : 5000 ≤ N) (v : vOk (ma 2)) (tm : tmOk (ma 1)) (h9 : 0 ≤ mf 9 ∧ mf 9 ≤ 12) : fm_X9_swaps N [.ref a] (mH h a mf ma) = some (iI (sWire (ma 1 4) (ma 2) - sWire (ma 1 4) (rSwA (ma 1 4) (ma 2) (ma 2 2).toNat)), mYes h a mf ma 14 (rSwA (ma 1 4) (ma 2) (ma 2 2).toNat)) := by
  have g2 := v.1.2.2.2.1
  have e1 : mRem mf ma 14 1 = ma 1 := mRem_n (by decide) (by decide)
  have es : mA (mRem mf ma 14) 2 (ma 2) = mRem mf ma 14 := by
    have : ma 2 = mRem mf ma 14 2 := (mRem_2 mf ma 14).symm
    rw [this, mA_self]
  have w0 := c_wireV (N := N) (h := h) (a := a) (mf := mF (mF mf 0 0) 9 (if mf 9 = 12 then 12 else mf 9 + 1)) (ma := mRem mf ma 14) hN v
  rw [es, e1] at w0
  rw [en_X9_swaps, eq_X9_swaps_0, m_p0, Option.bind_some, if_pos m_isc, c_rem0 hN h9, Option.bind_some, if_pos m_isc, w0, Option.bind_some]
  dsimp only
  unfold mYes
  generalize hm1 : mF (mF mf 0 0) 9 (if mf 9 = 12 then 12 else mf 9 + 1) = mf1
  have key := fix_up (B := cm_X9_swaps_18 N) (R := some (iI (sWire (ma 1 4) (ma 2) - sWire (ma 1 4) (rSwA (ma 1 4) (ma 2) (ma 2 2).toNat)), mH h a (mF mf1 1 0) (mA (mRem mf ma 14) 2 (rSwA (ma 1 4) (ma 2) (ma 2 2).toNat)))) (fun i => [some (.ref a), some (.int (iI (sWire (ma 1 4) (ma 2)))), some (.int (iI i))]) (fun i => mH h a mf1 (mA (mRem mf ma 14) 2 (rSwA (ma 1 4) (ma 2) i))) (ma 2 2).toNat ?_ ?_ N 0 (by omega) (by omega)
  · simp only [rSwA, Int.natCast_zero, es] at key
    exact key
  · intro K
    obtain ⟨o1, o2⟩ := rSwA_ok (tall := ma 1 4) v (ma 2 2).toNat (by omega)
    have w1 := c_wireV (N := N) (h := h) (a := a) (mf := mf1) (ma := mRem mf ma 14) hN o1
    rw [e1] at w1
    rw [eq_X9_swaps_18, m_r6, Option.bind_some, m_l6 (by omega) (by omega), Option.bind_some, mA_2, o2 2 (by omega), if_pos ((iI_le ⟨by omega, by omega⟩ ⟨by omega, by omega⟩).mpr (by omega)), if_pos m_isc, w1, Option.bind_some]
    dsimp only
    rw [if_pos m_isc, c_tell, Option.bind_some, iI_sub]
  · intro K i hi
    obtain ⟨o1, o2⟩ := rSwA_ok (tall := ma 1 4) v i (by omega)
    have e2 := o2 2 (by omega)
    have c32 := c_swaps32 (N := N) (h := h) (a := a) (mf := mf1) (ma := mRem mf ma 14) (x := i) (had := sWire (ma 1 4) (ma 2)) K hN o1 (by rw [e1]; exact tm) (by omega)
    rw [e1, e2] at c32
    rw [eq_X9_swaps_18, m_r6, Option.bind_some, m_l6 (by omega) (by omega), Option.bind_some, mA_2, e2, if_neg (fun z => by have := (iI_le ⟨by omega, by omega⟩ ⟨by omega, by omega⟩).mp z; omega), iI_add, c32, rSwA]
    rfl
end M41
