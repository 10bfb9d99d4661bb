/-! ===== the model: cells made ===== -/
section M10
variable {N : Nat} {h : ka_H} {a : Nat} {mf : Nat → Int} {ma : Nat → Int → Int}
def rCell0 (rows sites : Int) (r : Int → Int) (w f : Int) : Int → Int := rU (rU (rU (rU (rU r (36 + 7 * r 2) w) (36 + 7 * r 2 + 1) f) (36 + 7 * r 2 + 2) 0) (36 + 7 * r 2 + 3) (8 * (sites - w))) (36 + 7 * r 2 + 4) (8 * (rows - 1))
def rCell (rows sites : Int) (r : Int → Int) (w f : Int) : Int → Int := rU (rGive (rCell0 rows sites r w f) (r 2) (-1) (-1)) 2 (r 2 + 1)
theorem c_cell {w f : Int} (hN : 5000 ≤ N) (ok : rOk (ma 2)) (sz : mSz mf) (h9 : 0 ≤ mf 9 ∧ mf 9 ≤ 12) (h1 : -2147483648 ≤ w ∧ w < 2147483648) (h2 : -2147483648 ≤ f ∧ f < 2147483648) :
    fm_X9_cell N [.ref a, .int (iI w), .int (iI f)] (mH h a mf ma) =
      if vIn w 1 6 = true then
        (if vIn f (-1) (ma 2 1 - 1) = true then
          (if ma 2 2 = 20 then some (iI (-5), mNo h a mf ma (-5)) else some (iI (ma 2 2), mYes h a mf ma 2 (rCell (mf 2) (mf 3) (ma 2) w f)))
        else some (iI (-2), mNo h a mf ma (-2)))
      else some (iI (-1), mNo h a mf ma (-1)) := by
  have g1 := ok.2.2.1
  have g2 := ok.2.2.2.1
  have no1 := c_no (N := N) (h := h) (a := a) (mf := mf) (ma := ma) (v := -1) (by omega)
  have no2 := c_no (N := N) (h := h) (a := a) (mf := mf) (ma := ma) (v := -2) (by omega)
  have no5 := c_no (N := N) (h := h) (a := a) (mf := mf) (ma := ma) (v := -5) (by omega)
  have main : cm_X9_cell_43 N [some (.ref a), some (.int (iI w)), some (.int (iI f))] [] (mH h a (mF mf 0 0) ma) = if ma 2 2 = 20 then some (iI (-5), mNo h a mf ma (-5)) else some (iI (ma 2 2), mYes h a mf ma 2 (rCell (mf 2) (mf 3) (ma 2) w f)) := by
    rw [eq_X9_cell_43, m_r6, Option.bind_some, m_l6 (by omega) (by omega), Option.bind_some]
    by_cases q4 : ma 2 2 = 20
    · rw [if_neg (by rw [q4]; exact fun z => z rfl), if_pos q4, no5]
    · rw [if_pos (by rw [iI_eq ⟨by omega, by omega⟩ ⟨by omega, by omega⟩]; exact q4), if_neg q4, if_pos m_isc, c_rem0 hN h9, Option.bind_some, c_cellAt, Option.bind_some]
      dsimp only
      rw [m_r6, Option.bind_some, m_s6 (by omega) (by omega), Option.bind_some, mU_mA, mRem_2, m_r6, Option.bind_some, iI_add, m_s6 (by omega) (by omega), Option.bind_some, mU_mA, mA_2, mA_mA, m_r6, Option.bind_some, iI_add, m_s6 (by omega) (by omega), Option.bind_some, mU_mA, mA_2, mA_mA, m_r6, Option.bind_some, eq_X9_cell_113, m_g3, Option.bind_some, iI_sub, iI_mul, iI_add, m_s6 (by omega) (by omega), Option.bind_some, mU_mA, mA_2, mA_mA, m_r6, Option.bind_some, m_g2, Option.bind_some, iI_sub, iI_mul, iI_add, m_s6 (by omega) (by omega), Option.bind_some, mU_mA, mA_2, mA_mA, if_pos m_isc, c_lose (by omega) (by omega), Option.bind_some, mA_2, mA_mA, m_r6, Option.bind_some, m_l6 (by omega) (by omega), Option.bind_some, mA_2]
      have e0 : rGive (rCell0 (mf 2) (mf 3) (ma 2) w f) (ma 2 2) (-1) (-1) 2 = ma 2 2 := by
        unfold rCell0
        rw [rGive_n (by omega) (by omega), rU_n (by omega), rU_n (by omega), rU_n (by omega), rU_n (by omega), rU_n (by omega)]
      have e1 : rGive (rU (rU (rU (rU (rU (ma 2) (36 + 7 * ma 2 2) w) (36 + 7 * ma 2 2 + 1) f) (36 + 7 * ma 2 2 + 2) 0) (36 + 7 * ma 2 2 + 3) (8 * (mF (mF mf 0 0) 9 (if mf 9 = 12 then 12 else mf 9 + 1) 3 - w))) (36 + 7 * ma 2 2 + 4) (8 * (mF (mF mf 0 0) 9 (if mf 9 = 12 then 12 else mf 9 + 1) 2 - 1))) (ma 2 2) (-1) (-1) = rGive (rCell0 (mf 2) (mf 3) (ma 2) w f) (ma 2 2) (-1) (-1) := rfl
      rw [e1, e0, iI_add, m_s6 (by omega) (by omega), Option.bind_some, mU_mA, mA_2, mA_mA, if_pos m_isc, c_tell, Option.bind_some]
      rfl
  rw [en_X9_cell, eq_X9_cell_0, m_p0, Option.bind_some, iI_long h1.1 h1.2, c_in (by omega) (by omega) (by omega) (by omega) (by omega) (by omega), Option.bind_some]
  dsimp only
  by_cases q1 : vIn w 1 6 = true
  · rw [if_pos (by rw [q1]; exact tb1), if_pos q1]
    by_cases q2 : f = -1
    · subst q2
      have e3 : vIn (-1) (-1) (ma 2 1 - 1) = true := decide_eq_true (by omega)
      rw [if_pos rfl, main, if_pos e3]
    · rw [if_neg (by rw [iI_eq ⟨by omega, by omega⟩ ⟨by omega, by omega⟩]; exact q2), if_pos m_isc, c_isFence h2 ok.1, Option.bind_some]
      dsimp only
      have e3 : vIn f 0 (ma 2 1 - 1) = vIn f (-1) (ma 2 1 - 1) := by
        unfold vIn
        by_cases q : 0 ≤ f ∧ f ≤ ma 2 1 - 1
        · rw [decide_eq_true q, decide_eq_true (by omega)]
        · rw [decide_eq_false q, decide_eq_false (by omega)]
      rw [e3]
      by_cases q3 : vIn f (-1) (ma 2 1 - 1) = true
      · rw [if_pos (by rw [q3]; exact tb1), if_pos q3, main]
      · rw [if_neg (by simp [q3]), if_neg q3, no2]
  · rw [if_neg (by simp [q1]), if_neg q1, no1]
end M10
