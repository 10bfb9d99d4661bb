/-! ===== the model: fences ===== -/
section M9
variable {N : Nat} {h : ka_H} {a : Nat} {mf : Nat → Int} {ma : Nat → Int → Int}
def rFence (r : Int → Int) (lo hi fi la : Int) : Int → Int := rU (rU (rU (rU (rU r (24 + 4 * r 1) lo) (24 + 4 * r 1 + 1) hi) (24 + 4 * r 1 + 2) fi) (24 + 4 * r 1 + 3) la) 1 (r 1 + 1)
theorem rFence_ok {r : Int → Int} {lo hi fi la : Int} (ok : rOk r) (h0 : r 1 < 3) (h1 : 0 ≤ lo ∧ lo ≤ 100) (h2 : 0 ≤ hi ∧ hi ≤ 100) (h3 : 0 ≤ fi ∧ fi ≤ 100) (h4 : 0 ≤ la ∧ la ≤ 100) : rOk (rFence r lo hi fi la) := by
  obtain ⟨g1, g2, g3, g4, g5, g6⟩ := ok
  unfold rFence
  refine ⟨rB_rU (rB_rU (rB_rU (rB_rU (rB_rU g1 (by omega)) (by omega)) (by omega)) (by omega)) (by omega), ?_, ?_, ?_, ?_, ?_⟩
  · rw [rU_n (by omega), rU_n (by omega), rU_n (by omega), rU_n (by omega), rU_n (by omega)]; exact g2
  · rw [rU_s]; omega
  · rw [rU_n (by omega), rU_n (by omega), rU_n (by omega), rU_n (by omega), rU_n (by omega)]; exact g4
  · rw [rU_n (by omega), rU_n (by omega), rU_n (by omega), rU_n (by omega), rU_n (by omega)]; exact g5
  · intro c c0 hc
    rw [rU_n (by omega), rU_n (by omega), rU_n (by omega), rU_n (by omega), rU_n (by omega)] at hc
    rw [rU_n (by omega), rU_n (by omega), rU_n (by omega), rU_n (by omega), rU_n (by omega)]
    exact g6 c c0 hc
theorem c_fence {lo hi fi la : Int} (hN : 5000 ≤ N) (ok : rOk (ma 2)) (sz : mSz mf) (h9 : 0 ≤ mf 9 ∧ mf 9 ≤ 12) (h1 : -2147483648 ≤ lo ∧ lo < 2147483648) (h2 : -2147483648 ≤ hi ∧ hi < 2147483648) (h3 : -2147483648 ≤ fi ∧ fi < 2147483648) (h4 : -2147483648 ≤ la ∧ la < 2147483648) :
    fm_X9_fence N [.ref a, .int (iI lo), .int (iI hi), .int (iI fi), .int (iI la)] (mH h a mf ma) =
      if sBox (mf 2) (mf 3) lo hi fi la = true then
        (if sTak (mf 2) (mf 3) (ma 2) true lo hi fi la = true then some (iI (-4), mNo h a mf ma (-4))
        else if ma 2 1 = 3 then some (iI (-5), mNo h a mf ma (-5))
        else some (iI (ma 2 1), mYes h a mf ma 1 (rLose (mf 2) (mf 3) (rFence (ma 2) lo hi fi la) (ma 2 2).toNat)))
      else some (iI (-1), mNo h a mf ma (-1)) := by
  have g0 := ok.2.2.1
  have sz0 : mSz (mF mf 0 0) := sz
  have no1 := c_no (N := N) (h := h) (a := a) (mf := mf) (ma := ma) (v := -1) (by omega)
  have no4 := c_no (N := N) (h := h) (a := a) (mf := mf) (ma := ma) (v := -4) (by omega)
  have no5 := c_no (N := N) (h := h) (a := a) (mf := mf) (ma := ma) (v := -5) (by omega)
  rw [en_X9_fence, eq_X9_fence_0, m_p0, Option.bind_some, if_pos m_isc, c_isBox sz0 h1 h2 h3 h4, Option.bind_some]
  show (if ¬ (if sBox (mf 2) (mf 3) lo hi fi la = true then iI 1 else iI 0) = iI 0 then _ else _) = _
  by_cases q1 : sBox (mf 2) (mf 3) lo hi fi la = true
  · rw [if_pos (by rw [q1]; exact tb1), if_pos q1]
    dsimp only
    have b1 := of_decide_eq_true q1
    have hs1 := sz.1
    have hs2 := sz.2
    have ct := c_isTaken (N := N) (h := h) (a := a) (mf := mF mf 0 0) (ma := ma) (lo := lo) (hi := hi) (fi := fi) (la := la) (fn := true) hN ok sz0 (by omega) (by omega)
    rw [show (if true = true then iI 1 else iI 0) = iI 1 from rfl] at ct
    rw [if_pos m_isc, ct, Option.bind_some]
    show (if (if sTak (mf 2) (mf 3) (ma 2) true lo hi fi la = true then iI 1 else iI 0) = iI 0 then _ else _) = _
    by_cases q3 : sTak (mf 2) (mf 3) (ma 2) true lo hi fi la = true
    · rw [if_neg (by rw [q3]; exact tb1), if_pos q3, no4]
    · rw [if_pos (by simp [q3]), if_neg q3, m_r6, Option.bind_some, m_l6 (by omega) (by omega), Option.bind_some]
      by_cases q4 : ma 2 1 = 3
      · rw [if_neg (by rw [q4]; exact fun z => z rfl), if_pos q4, no5]
      · have okb := rFence_ok (lo := lo) (hi := hi) (fi := fi) (la := la) ok (by omega) (by omega) (by omega) (by omega) (by omega)
        rw [if_pos (by rw [iI_eq ⟨by omega, by omega⟩ ⟨by omega, by omega⟩]; exact q4), if_neg q4, if_pos m_isc, c_rem0 hN h9, Option.bind_some, if_pos m_isc, iI_mul, iI_add, c_write (by omega) (by omega), Option.bind_some, mRem_2, eq_X9_fence_85, m_r6, Option.bind_some, m_l6 (by omega) (by omega), Option.bind_some, mA_2]
        have e0 : rU (rU (rU (rU (ma 2) (24 + 4 * ma 2 1) lo) (24 + 4 * ma 2 1 + 1) hi) (24 + 4 * ma 2 1 + 2) fi) (24 + 4 * ma 2 1 + 3) la 1 = ma 2 1 := by
          rw [rU_n (by omega), rU_n (by omega), rU_n (by omega), rU_n (by omega)]
        rw [e0, iI_add, m_s6 (by omega) (by omega), Option.bind_some, mU_mA, mA_2, mA_mA, if_pos m_isc]
        have e2 : rFence (ma 2) lo hi fi la 2 = ma 2 2 := by
          unfold rFence
          rw [rU_n (by omega), rU_n (by omega), rU_n (by omega), rU_n (by omega), rU_n (by omega)]
        have cl := c_loseUnlawful (N := N) (h := h) (a := a) (mf := mF (mF mf 0 0) 9 (if mf 9 = 12 then 12 else mf 9 + 1)) (ma := mA (mRem mf ma 1) 2 (rFence (ma 2) lo hi fi la)) hN (by rw [mA_2]; exact okb) sz
        rw [mA_2, mA_mA, e2] at cl
        unfold rFence at cl
        rw [cl, Option.bind_some, if_pos m_isc, c_tell, Option.bind_some]
        rfl
  · rw [if_neg (by simp [q1]), if_neg q1]
    dsimp only
    rw [no1]
end M9
