/-! ===== the model: drop ===== -/
section M15
variable {N : Nat} {h : ka_H} {a : Nat} {mf : Nat → Int} {ma : Nat → Int → Int}
/-- a net goes, those behind it move down -/
def rDrop (r : Int → Int) (n : Int) : Int → Int := rCp (rU r 3 (r 3 - 1)) (rU r 3 (r 3 - 1)) (176 + 14 * n + 14) (176 + 14 * n) (14 * (r 3 - 1 - n))
theorem c_drop {n : Int} (hN : 5000 ≤ N) (ok : rOk (ma 2)) (h9 : 0 ≤ mf 9 ∧ mf 9 ≤ 12) (hn : -2147483648 ≤ n ∧ n < 2147483648) :
    fm_X9_drop N [.ref a, .int (iI n)] (mH h a mf ma) = if vIn n 0 (ma 2 3 - 1) = true then some (iI (ma 2 (176 + 14 * n + 1)), mYes h a mf ma 4 (rDrop (ma 2) n)) else some (iI (-2), mNo h a mf ma (-2)) := by
  have g3 := ok.2.2.2.2.1
  have no2 := c_no (N := N) (h := h) (a := a) (mf := mf) (ma := ma) (v := -2) (by omega)
  rw [en_X9_drop, eq_X9_drop_0, m_p0, Option.bind_some, if_pos m_isc, c_isNet hn ok.1, Option.bind_some]
  dsimp only
  by_cases q1 : vIn n 0 (ma 2 3 - 1) = true
  · have b1 := of_decide_eq_true q1
    rw [if_pos (by rw [q1]; exact tb1), if_pos q1, if_pos m_isc, c_rem0 hN h9, Option.bind_some, m_r6, Option.bind_some, c_netAt, Option.bind_some]
    dsimp only
    rw [iI_add, m_l6 (by omega) (by omega), Option.bind_some, m_r6, Option.bind_some, m_l6 (by omega) (by omega), Option.bind_some, iI_sub, m_s6 (by omega) (by omega), Option.bind_some, mU_mA, mRem_2, c_netAt, Option.bind_some]
    dsimp only
    generalize hm1 : mF (mF mf 0 0) 9 (if mf 9 = 12 then 12 else mf 9 + 1) = mf1
    generalize hr1 : rU (ma 2) 3 (ma 2 3 - 1) = r1
    have e3 : r1 3 = ma 2 3 - 1 := by rw [← hr1, rU_s]
    obtain ⟨e, he⟩ : ∃ e : Nat, 14 * (ma 2 3 - 1 - n) = e := ⟨(14 * (ma 2 3 - 1 - n)).toNat, by omega⟩
    have key := fix_up (B := cm_X9_drop_52 N) (R := some (iI (ma 2 (176 + 14 * n + 1)), mH h a (mF mf1 1 0) (mA (mRem mf ma 4) 2 (rDrop (ma 2) n)))) (fun i => [some (.ref a), some (.int (iI n)), some (.int (iI (ma 2 (176 + 14 * n + 1)))), some (.int (iI (176 + 14 * n + i)))]) (fun i => mH h a mf1 (mA (mRem mf ma 4) 2 (rCp r1 r1 (176 + 14 * n + 14) (176 + 14 * n) i))) e ?_ ?_ N 0 (by omega) (by omega)
    · simp only [Int.natCast_zero, Int.add_zero, rCp_0] at key
      rw [key, ← hm1]
      rfl
    · intro K
      have e4 : rCp r1 r1 (176 + 14 * n + 14) (176 + 14 * n) e 3 = ma 2 3 - 1 := by
        unfold rCp
        rw [if_neg (by omega)]
        exact e3
      rw [eq_X9_drop_52, m_r6, Option.bind_some, m_l6 (by omega) (by omega), Option.bind_some, mA_2, e4, c_netAt, Option.bind_some]
      dsimp only
      rw [if_pos ((iI_le ⟨by omega, by omega⟩ ⟨by omega, by omega⟩).mpr (by omega)), if_pos m_isc, c_tell, Option.bind_some]
      unfold rDrop
      rw [he, hr1]
    · intro K i hi
      have e4 : rCp r1 r1 (176 + 14 * n + 14) (176 + 14 * n) i 3 = ma 2 3 - 1 := by
        unfold rCp
        rw [if_neg (by omega)]
        exact e3
      have e5 : rCp r1 r1 (176 + 14 * n + 14) (176 + 14 * n) i (176 + 14 * n + i + 14) = r1 (176 + 14 * n + 14 + i) := by
        unfold rCp
        rw [if_neg (by omega)]
        congr 1
        omega
      have ei : 176 + 14 * n + ((i + 1 : Nat) : Int) = 176 + 14 * n + (i : Int) + 1 := by omega
      have ei2 : ((i + 1 : Nat) : Int) = (i : Int) + 1 := by omega
      rw [eq_X9_drop_52, m_r6, Option.bind_some, m_l6 (by omega) (by omega), Option.bind_some, mA_2, e4, c_netAt, Option.bind_some]
      dsimp only
      rw [if_neg (fun z => absurd ((iI_le ⟨by omega, by omega⟩ ⟨by omega, by omega⟩).mp z) (by omega)), m_r6, Option.bind_some, Option.bind_some, iI_add, m_l6 (by omega) (by omega), Option.bind_some, mA_2, e5, m_s6 (by omega) (by omega), Option.bind_some, mU_mA, mA_2, mA_mA, rCp_s _ _ _ _ _ (by omega), iI_add, ei, ei2]
  · rw [if_neg (by simp [q1]), if_neg q1, no2]
end M15
