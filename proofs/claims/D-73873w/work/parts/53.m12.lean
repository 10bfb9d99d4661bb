/-! ===== the model: want, drop ===== -/
section M12
variable {N : Nat} {h : ka_H} {a : Nat} {mf : Nat → Int} {ma : Nat → Int → Int}
/-- how far apart -/
def sFar (x y : Int) : Int := if y ≤ x then x - y else y - x
def rWant (r : Int → Int) (c x y : Int) : Int → Int := rU (rU r (36 + 7 * c + 3) x) (36 + 7 * c + 4) y
theorem c_want {c x y : Int} (hN : 5000 ≤ N) (ok : rOk (ma 2)) (sz : mSz mf) (h9 : 0 ≤ mf 9 ∧ mf 9 ≤ 12) (hc : -2147483648 ≤ c ∧ c < 2147483648) (hx : -2147483648 ≤ x ∧ x < 2147483648) (hy : -2147483648 ≤ y ∧ y < 2147483648) :
    fm_X9_want N [.ref a, .int (iI c), .int (iI x), .int (iI y)] (mH h a mf ma) =
      if (vIn x 0 (16 * (mf 3 - 1)) && vIn y 0 (16 * (mf 2 - 1))) = true then
        (if vIn c 0 (ma 2 2 - 1) = true then
          (if (!sFix (ma 2) c.toNat && decide (x ≤ 16 * (mf 3 - ma 2 (36 + 7 * c)))) = true then some (iI (sFar (ma 2 (36 + 7 * c + 3)) x + sFar (ma 2 (36 + 7 * c + 4)) y), mYes h a mf ma 5 (rWant (ma 2) c x y)) else some (iI (-4), mNo h a mf ma (-4)))
        else some (iI (-2), mNo h a mf ma (-2)))
      else some (iI (-1), mNo h a mf ma (-1)) := by
  have g2 := ok.2.2.2.1
  have hs1 := sz.1
  have hs2 := sz.2
  have no1 := c_no (N := N) (h := h) (a := a) (mf := mf) (ma := ma) (v := -1) (by omega)
  have no2 := c_no (N := N) (h := h) (a := a) (mf := mf) (ma := ma) (v := -2) (by omega)
  have no4 := c_no (N := N) (h := h) (a := a) (mf := mf) (ma := ma) (v := -4) (by omega)
  have e2 : mF mf 0 0 2 = mf 2 := rfl
  have e3 : mF mf 0 0 3 = mf 3 := rfl
  rw [en_X9_want, eq_X9_want_0, m_p0, Option.bind_some, m_g3, Option.bind_some, e3, iI_sub, iI_long hx.1 hx.2, iI_long (by omega) (by omega), lI_mul, c_in (by omega) (by omega) (by omega) (by omega) (by omega) (by omega), Option.bind_some]
  dsimp only
  by_cases q1 : vIn x 0 (16 * (mf 3 - 1)) = true
  · rw [if_neg (by rw [q1]; exact tb1), m_g2, Option.bind_some, e2, iI_sub, iI_long hy.1 hy.2, iI_long (by omega) (by omega), lI_mul, c_in (by omega) (by omega) (by omega) (by omega) (by omega) (by omega), Option.bind_some, q1, Bool.true_and]
    dsimp only
    by_cases q2 : vIn y 0 (16 * (mf 2 - 1)) = true
    · rw [if_pos (by rw [q2]; exact tb1), if_pos q2, if_pos m_isc, c_isCell hc ok.1, Option.bind_some]
      dsimp only
      by_cases q3 : vIn c 0 (ma 2 2 - 1) = true
      · have b0 := of_decide_eq_true q1
        have b00 := of_decide_eq_true q2
        have b1 := of_decide_eq_true q3
        obtain ⟨k, rfl⟩ : ∃ k : Nat, c = k := ⟨c.toNat, by omega⟩
        have bw := ok.2.2.2.2.2 k (by omega) (by omega)
        have bx := ok.1 (36 + 7 * k + 3)
        have by' := ok.1 (36 + 7 * k + 4)
        rw [if_pos (by rw [q3]; exact tb1), if_pos q3, if_pos m_isc, c_isFixed (by omega) ok.1, Option.bind_some, Int.toNat_natCast]
        dsimp only
        by_cases q4 : sFix (ma 2) k = true
        · rw [if_pos (by rw [q4]; exact tb1), q4, eq_X9_want_91, no4]
          rfl
        · have q4' : sFix (ma 2) k = false := by simpa using q4
          rw [if_neg (by rw [q4']; simp), q4', m_g3, Option.bind_some, eq_X9_want_82, if_pos m_isc, c_width (by omega) (by omega), Option.bind_some, e3, iI_sub, iI_mul]
          by_cases q5 : x ≤ 16 * (mf 3 - ma 2 (36 + 7 * k))
          · rw [if_pos ((iI_le ⟨by omega, by omega⟩ ⟨by omega, by omega⟩).mpr q5), decide_eq_true q5]
            dsimp only
            rw [if_pos m_isc, c_rem0 hN h9, Option.bind_some, c_cellAt, Option.bind_some]
            dsimp only
            rw [m_r6, Option.bind_some, iI_add, m_l6 (by omega) (by omega), Option.bind_some, mRem_2, c_far (by omega) (by omega), Option.bind_some]
            dsimp only
            rw [m_r6, Option.bind_some, iI_add, m_l6 (by omega) (by omega), Option.bind_some, mRem_2, c_far (by omega) (by omega), Option.bind_some]
            dsimp only
            rw [m_r6, Option.bind_some, m_s6 (by omega) (by omega), Option.bind_some, mU_mA, mRem_2, m_r6, Option.bind_some, eq_X9_want_155, iI_add, m_s6 (by omega) (by omega), Option.bind_some, mU_mA, mA_2, mA_mA, if_pos m_isc, iI_add, c_tell, Option.bind_some]
            rfl
          · rw [if_neg (fun z => q5 ((iI_le ⟨by omega, by omega⟩ ⟨by omega, by omega⟩).mp z)), decide_eq_false q5, eq_X9_want_91, no4]
            rfl
      · rw [if_neg (by simp [q3]), if_neg q3, no2]
    · rw [if_neg (by simp [q2]), if_neg q2, eq_X9_want_45, no1]
  · rw [if_pos (by simp [q1]), if_neg (by simp [q1]), eq_X9_want_45, no1]
end M12
