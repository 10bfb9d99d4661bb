/-! ===== the model: free, take, want ===== -/
section M11
variable {N : Nat} {h : ka_H} {a : Nat} {mf : Nat → Int} {ma : Nat → Int → Int}
theorem c_free {c : Int} (hN : 5000 ≤ N) (ok : rOk (ma 2)) (h9 : 0 ≤ mf 9 ∧ mf 9 ≤ 12) (hc : -2147483648 ≤ c ∧ c < 2147483648) :
    fm_X9_free N [.ref a, .int (iI c)] (mH h a mf ma) =
      if vIn c 0 (ma 2 2 - 1) = true then
        (if sFix (ma 2) c.toNat = true then some (iI (ma 2 (36 + 7 * c + 5)), mYes h a mf ma 7 (rU (ma 2) (36 + 7 * c + 2) 0)) else some (iI (-4), mNo h a mf ma (-4)))
      else some (iI (-2), mNo h a mf ma (-2)) := by
  have g2 := ok.2.2.2.1
  have no2 := c_no (N := N) (h := h) (a := a) (mf := mf) (ma := ma) (v := -2) (by omega)
  have no4 := c_no (N := N) (h := h) (a := a) (mf := mf) (ma := ma) (v := -4) (by omega)
  rw [en_X9_free, eq_X9_free_0, m_p0, Option.bind_some, if_pos m_isc, c_isCell hc ok.1, Option.bind_some]
  dsimp only
  by_cases q1 : vIn c 0 (ma 2 2 - 1) = true
  · have b1 := of_decide_eq_true q1
    obtain ⟨k, rfl⟩ : ∃ k : Nat, c = k := ⟨c.toNat, by omega⟩
    rw [if_pos (by rw [q1]; exact tb1), if_pos q1, if_pos m_isc, c_isFixed (by omega) ok.1, Option.bind_some, Int.toNat_natCast]
    dsimp only
    by_cases q2 : sFix (ma 2) k = true
    · rw [if_pos (by rw [q2]; exact tb1), if_pos q2, if_pos m_isc, c_rem0 hN h9, Option.bind_some, m_r6, Option.bind_some, c_cellAt, Option.bind_some]
      dsimp only
      rw [iI_add, m_s6 (by omega) (by omega), Option.bind_some, mU_mA, mRem_2, m_r6, Option.bind_some, c_cellAt, Option.bind_some]
      dsimp only
      rw [iI_add, m_l6 (by omega) (by omega), Option.bind_some, mA_2, rU_n (by omega), if_pos m_isc, c_tell, Option.bind_some]
      rfl
    · rw [if_neg (by simp [q2]), if_neg q2, no4]
  · rw [if_neg (by simp [q1]), if_neg q1, no2]
theorem c_take {c : Int} (hN : 5000 ≤ N) (ok : rOk (ma 2)) (h9 : 0 ≤ mf 9 ∧ mf 9 ≤ 12) (hc : -2147483648 ≤ c ∧ c < 2147483648) :
    fm_X9_take N [.ref a, .int (iI c)] (mH h a mf ma) =
      if vIn c 0 (ma 2 2 - 1) = true then
        (if (!sFix (ma 2) c.toNat && sHas (ma 2) c.toNat) = true then some (iI (ma 2 (36 + 7 * c + 5)), mYes h a mf ma 9 (rGive (ma 2) c (-1) (-1))) else some (iI (-4), mNo h a mf ma (-4)))
      else some (iI (-2), mNo h a mf ma (-2)) := by
  have g2 := ok.2.2.2.1
  have no2 := c_no (N := N) (h := h) (a := a) (mf := mf) (ma := ma) (v := -2) (by omega)
  have no4 := c_no (N := N) (h := h) (a := a) (mf := mf) (ma := ma) (v := -4) (by omega)
  rw [en_X9_take, eq_X9_take_0, m_p0, Option.bind_some, if_pos m_isc, c_isCell hc ok.1, Option.bind_some]
  dsimp only
  by_cases q1 : vIn c 0 (ma 2 2 - 1) = true
  · have b1 := of_decide_eq_true q1
    obtain ⟨k, rfl⟩ : ∃ k : Nat, c = k := ⟨c.toNat, by omega⟩
    rw [if_pos (by rw [q1]; exact tb1), if_pos q1, if_pos m_isc, c_isMoving (by omega) ok.1, Option.bind_some, Int.toNat_natCast]
    dsimp only
    by_cases q2 : (!sFix (ma 2) k && sHas (ma 2) k) = true
    · rw [if_pos (by rw [q2]; exact tb1), if_pos q2, if_pos m_isc, c_rem0 hN h9, Option.bind_some, m_r6, Option.bind_some, c_cellAt, Option.bind_some]
      dsimp only
      rw [iI_add, m_l6 (by omega) (by omega), Option.bind_some, mRem_2, if_pos m_isc, c_lose (by omega) (by omega), Option.bind_some, mRem_2, if_pos m_isc, c_tell, Option.bind_some]
      rfl
    · rw [if_neg (by rw [iI_zb]; simpa using q2), if_neg q2, no4]
  · rw [if_neg (by simp [q1]), if_neg q1, no2]
end M11
