/-! ===== the model: blocks, fences ===== -/
theorem tb1 : ¬ (if true = true then iI 1 else iI 0) = iI 0 := by decide
section M8
variable {N : Nat} {h : ka_H} {a : Nat} {mf : Nat → Int} {ma : Nat → Int → Int}
/-- the model behind an act: remembered, its row r -/
def mYes (h : ka_H) (a : Nat) (mf : Nat → Int) (ma : Nat → Int → Int) (w : Int) (r : Int → Int) : ka_H := mH h a (mF (mF (mF mf 0 0) 9 (if mf 9 = 12 then 12 else mf 9 + 1)) 1 0) (mA (mRem mf ma w) 2 r)
theorem mRem_2 (mf : Nat → Int) (ma : Nat → Int → Int) (w : Int) : mRem mf ma w 2 = ma 2 := by
  unfold mRem
  split <;> rw [mA_n (by decide), mA_n (by decide)]
theorem mRem_0 (mf : Nat → Int) (ma : Nat → Int → Int) (w : Int) : mRem (mF mf 0 0) ma w = mRem mf ma w := rfl
theorem c_rem0 {w : Int} (hN : 5000 ≤ N) (h9 : 0 ≤ mf 9 ∧ mf 9 ≤ 12) : fm_X9_remember N [.ref a, .int (iI w)] (mH h a (mF mf 0 0) ma) = some (mH h a (mF (mF mf 0 0) 9 (if mf 9 = 12 then 12 else mf 9 + 1)) (mRem mf ma w)) := c_remember (mf := mF mf 0 0) hN h9
def rBlock (r : Int → Int) (lo hi fi la ha : Int) : Int → Int := rU (rU (rU (rU (rU (rU r (4 + 5 * r 0) lo) (4 + 5 * r 0 + 1) hi) (4 + 5 * r 0 + 2) fi) (4 + 5 * r 0 + 3) la) (4 + 5 * r 0 + 4) ha) 0 (r 0 + 1)
theorem rBlock_ok {r : Int → Int} {lo hi fi la ha : Int} (ok : rOk r) (h0 : r 0 < 4) (h1 : 0 ≤ lo ∧ lo ≤ 100) (h2 : 0 ≤ hi ∧ hi ≤ 100) (h3 : 0 ≤ fi ∧ fi ≤ 100) (h4 : 0 ≤ la ∧ la ≤ 100) (h5 : 0 ≤ ha ∧ ha ≤ 4) : rOk (rBlock r lo hi fi la ha) := by
  obtain ⟨g1, g2, g3, g4, g5, g6⟩ := ok
  unfold rBlock
  refine ⟨rB_rU (rB_rU (rB_rU (rB_rU (rB_rU (rB_rU g1 (by omega)) (by omega)) (by omega)) (by omega)) (by omega)) (by omega), ?_, ?_, ?_, ?_, ?_⟩
  · rw [rU_s]; omega
  · rw [rU_n (by omega), rU_n (by omega), rU_n (by omega), rU_n (by omega), rU_n (by omega), rU_n (by omega)]; exact g3
  · rw [rU_n (by omega), rU_n (by omega), rU_n (by omega), rU_n (by omega), rU_n (by omega), rU_n (by omega)]; exact g4
  · rw [rU_n (by omega), rU_n (by omega), rU_n (by omega), rU_n (by omega), rU_n (by omega), rU_n (by omega)]; exact g5
  · intro c c0 hc
    rw [rU_n (by omega), rU_n (by omega), rU_n (by omega), rU_n (by omega), rU_n (by omega), rU_n (by omega)] at hc
    rw [rU_n (by omega), rU_n (by omega), rU_n (by omega), rU_n (by omega), rU_n (by omega), rU_n (by omega)]
    exact g6 c c0 hc
theorem c_block {lo hi fi la ha : Int} (hN : 5000 ≤ N) (ok : rOk (ma 2)) (sz : mSz mf) (h9 : 0 ≤ mf 9 ∧ mf 9 ≤ 12) (h1 : -2147483648 ≤ lo ∧ lo < 2147483648) (h2 : -2147483648 ≤ hi ∧ hi < 2147483648) (h3 : -2147483648 ≤ fi ∧ fi < 2147483648) (h4 : -2147483648 ≤ la ∧ la < 2147483648) (h5 : -2147483648 ≤ ha ∧ ha < 2147483648) :
    fm_X9_block N [.ref a, .int (iI lo), .int (iI hi), .int (iI fi), .int (iI la), .int (iI ha)] (mH h a mf ma) =
      if (sBox (mf 2) (mf 3) lo hi fi la && vIn ha 0 4) = true then
        (if sTak (mf 2) (mf 3) (ma 2) false lo hi (fi - ha) (la + ha) = true then some (iI (-4), mNo h a mf ma (-4))
        else if ma 2 0 = 4 then some (iI (-5), mNo h a mf ma (-5))
        else some (iI (ma 2 0), mYes h a mf ma 0 (rLose (mf 2) (mf 3) (rBlock (ma 2) lo hi fi la ha) (ma 2 2).toNat)))
      else some (iI (-1), mNo h a mf ma (-1)) := by
  have g0 := ok.2.1
  have sz0 : mSz (mF mf 0 0) := sz
  have no1 := c_no (N := N) (h := h) (a := a) (mf := mf) (ma := ma) (v := -1) (by omega)
  have no4 := c_no (N := N) (h := h) (a := a) (mf := mf) (ma := ma) (v := -4) (by omega)
  have no5 := c_no (N := N) (h := h) (a := a) (mf := mf) (ma := ma) (v := -5) (by omega)
  rw [en_X9_block, eq_X9_block_0, m_p0, Option.bind_some, if_pos m_isc, c_isBox sz0 h1 h2 h3 h4, Option.bind_some, eq_X9_block_30, no1]
  show (if (if sBox (mf 2) (mf 3) lo hi fi la = true then iI 1 else iI 0) = iI 0 then _ else _) = _
  by_cases q1 : sBox (mf 2) (mf 3) lo hi fi la = true
  · rw [if_neg (by rw [q1]; exact tb1), iI_long h5.1 h5.2, c_in (by omega) (by omega) (by omega) (by omega) (by omega) (by omega), Option.bind_some, q1, Bool.true_and]
    dsimp only
    have b1 := of_decide_eq_true q1
    by_cases q2 : vIn ha 0 4 = true
    · have b2 := of_decide_eq_true q2
      have hs1 := sz.1
      have hs2 := sz.2
      have ct := c_isTaken (N := N) (h := h) (a := a) (mf := mF mf 0 0) (ma := ma) (lo := lo) (hi := hi) (fi := fi - ha) (la := la + ha) (fn := false) hN ok sz0 (by omega) (by omega)
      rw [show (if false = true then iI 1 else iI 0) = iI 0 from rfl] at ct
      rw [if_pos (by rw [q2]; exact tb1), if_pos q2, if_pos m_isc, iI_sub, iI_add, ct, Option.bind_some]
      show (if (if sTak (mf 2) (mf 3) (ma 2) false lo hi (fi - ha) (la + ha) = true then iI 1 else iI 0) = iI 0 then _ else _) = _
      by_cases q3 : sTak (mf 2) (mf 3) (ma 2) false lo hi (fi - ha) (la + ha) = true
      · rw [if_neg (by rw [q3]; exact tb1), if_pos q3, no4]
      · rw [if_pos (by simp [q3]), if_neg q3, m_r6, Option.bind_some, m_l6 (by omega) (by omega), Option.bind_some]
        by_cases q4 : ma 2 0 = 4
        · rw [if_neg (by rw [q4]; exact fun z => z rfl), if_pos q4, no5]
        · have okb := rBlock_ok (lo := lo) (hi := hi) (fi := fi) (la := la) (ha := ha) ok (by omega) (by omega) (by omega) (by omega) (by omega) (by omega)
          rw [if_pos (by rw [iI_eq ⟨by omega, by omega⟩ ⟨by omega, by omega⟩]; exact q4), if_neg q4, if_pos m_isc, c_rem0 hN h9, Option.bind_some, eq_X9_block_89, if_pos m_isc, iI_mul, iI_add, c_write (by omega) (by omega), Option.bind_some, mRem_2, m_r6, Option.bind_some, iI_add, m_s6 (by omega) (by omega), Option.bind_some, mU_mA, mA_2, mA_mA, m_r6, Option.bind_some, m_l6 (by omega) (by omega), Option.bind_some, mA_2]
          have e0 : rU (rU (rU (rU (rU (ma 2) (4 + 5 * ma 2 0) lo) (4 + 5 * ma 2 0 + 1) hi) (4 + 5 * ma 2 0 + 2) fi) (4 + 5 * ma 2 0 + 3) la) (4 + 5 * ma 2 0 + 4) ha 0 = ma 2 0 := by
            rw [rU_n (by omega), rU_n (by omega), rU_n (by omega), rU_n (by omega), rU_n (by omega)]
          rw [e0, iI_add, m_s6 (by omega) (by omega), Option.bind_some, mU_mA, mA_2, mA_mA, if_pos m_isc]
          have e2 : rBlock (ma 2) lo hi fi la ha 2 = ma 2 2 := by
            unfold rBlock
            rw [rU_n (by omega), rU_n (by omega), rU_n (by omega), rU_n (by omega), rU_n (by omega), rU_n (by omega)]
          have cl := c_loseUnlawful (N := N) (h := h) (a := a) (mf := mF (mF mf 0 0) 9 (if mf 9 = 12 then 12 else mf 9 + 1)) (ma := mA (mRem mf ma 0) 2 (rBlock (ma 2) lo hi fi la ha)) hN (by rw [mA_2]; exact okb) sz
          rw [mA_2, mA_mA, e2] at cl
          unfold rBlock at cl
          rw [cl, Option.bind_some, if_pos m_isc, c_tell, Option.bind_some]
          rfl
    · rw [if_neg (by simp [q2]), if_neg q2, eq_X9_block_30, no1]
  · rw [if_pos (by simp [q1]), if_neg (by simp [q1])]
end M8
