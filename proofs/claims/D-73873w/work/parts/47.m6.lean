/-! ===== the model: terms, the tape's end, boxes ===== -/
section M6
variable {N : Nat} {h : ka_H} {a : Nat} {mf : Nat → Int} {ma : Nat → Int → Int}
def tLo (w : Int) : Int := if w = 1 then 10 else if w = 2 then 0 else 1
def tHi (w : Int) : Int := if w = 1 then 100 else if w = 2 ∨ w = 5 then 99 else if w = 4 then 8 else 64
/-- the model behind a refusal -/
def mNo (h : ka_H) (a : Nat) (mf : Nat → Int) (ma : Nat → Int → Int) (v : Int) : ka_H := mH h a (mF (mF mf 0 0) 1 v) (mA ma 0 (rU (ma 0) (-v) (ma 0 (-v) + 1)))
theorem c_no {v : Int} (hv : -6 ≤ v ∧ v ≤ 0) : (if ka_isc (mH h a (mF mf 0 0) ma) [11] a = true then (fm_X9_refuse N [.ref a, .int (iI v)] (mH h a (mF mf 0 0) ma)).bind fun r => some (r.1, r.2) else none) = some (iI v, mNo h a mf ma v) := by
  rw [if_pos m_isc, c_refuse hv, Option.bind_some]
  rfl
theorem c_terms63 {w v lo hi : Int} (hw : -2147483648 ≤ w ∧ w < 2147483648) (hv : -2147483648 ≤ v ∧ v < 2147483648) (hlo : 0 ≤ lo ∧ lo ≤ 1000) (hhi : 0 ≤ hi ∧ hi ≤ 1000) : cm_X9_terms_63 N [some (.ref a), some (.int (iI w)), some (.int (iI v)), some (.int (iI lo))] [.int (iI hi)] (mH h a (mF mf 0 0) ma) = if (vIn w 0 5 && vIn v lo hi) = true then some (iI (ma 1 w), mH h a (mF (mF mf 0 0) 1 0) (mA ma 1 (rU (ma 1) w v))) else some (iI (-1), mNo h a mf ma (-1)) := by
  rw [eq_X9_terms_63, iI_long hw.1 hw.2, c_in (by omega) (by omega) (by omega) (by omega) (by omega) (by omega), Option.bind_some]
  simp only [iI_zb, eq_X9_terms_90, c_no (show (-6 : Int) ≤ -1 ∧ (-1 : Int) ≤ 0 by omega)]
  by_cases q : vIn w 0 5 = true
  · have q2 := of_decide_eq_true q
    rw [if_neg (by simp [q]), c_inI hv.1 hv.2 (by omega) (by omega) (by omega) (by omega), Option.bind_some]
    simp (disch := omega) only [iI_zb, m_r5, Option.bind_some, m_l5, m_s5, m_isc, c_tell, mU_mA, ↓reduceIte, c_no (show (-6 : Int) ≤ -1 ∧ (-1 : Int) ≤ 0 by omega)]
    by_cases q3 : vIn v lo hi = true
    · simp [q, q3]
    · simp only [q, q3, Bool.true_and, not_true_eq_false, Bool.not_eq_true, ↓reduceIte, Bool.false_eq_true, if_false]
      rw [c_refuse (by omega), Option.bind_some]
      rfl
  · simp [q]
theorem c_terms {w v : Int} (hw : -2147483648 ≤ w ∧ w < 2147483648) (hv : -2147483648 ≤ v ∧ v < 2147483648) : fm_X9_terms N [.ref a, .int (iI w), .int (iI v)] (mH h a mf ma) = if (vIn w 0 5 && vIn v (tLo w) (tHi w)) = true then some (iI (ma 1 w), mH h a (mF (mF mf 0 0) 1 0) (mA ma 1 (rU (ma 1) w v))) else some (iI (-1), mNo h a mf ma (-1)) := by
  rw [en_X9_terms, eq_X9_terms_0, m_p0, Option.bind_some]
  simp (disch := omega) only [iI_eqD, eq_X9_terms_25, eq_X9_terms_46, c_terms63 hw hv]
  unfold tLo tHi
  by_cases q1 : w = 1
  · subst q1; simp
  · by_cases q2 : w = 2
    · subst q2; simp
    · by_cases q5 : w = 5
      · subst q5; simp
      · by_cases q4 : w = 4
        · subst q4; simp
        · simp [q1, q2, q5, q4]
theorem c_end {n : Int} (hn : -2147483648 ≤ n ∧ n < 2147483648) (h13 : 0 ≤ mf 13 ∧ mf 13 ≤ 100) : fm_X9_end N [.ref a, .int (iI n)] (mH h a mf ma) = if 0 ≤ n ∧ n ≤ mf 13 then some (iI n, mH h a (mF (mF mf 0 0) 13 n) ma) else some (iI (-1), mH h a (mF mf 0 0) ma) := by
  rw [en_X9_end, eq_X9_end_0, m_p0, Option.bind_some]
  simp (disch := omega) only [iI_ltD, m_g13, mF_n (show (13 : Nat) ≠ 0 by decide), Option.bind_some, iI_leD, m_p13, eq_X9_end_17]
  by_cases q1 : n < 0
  · rw [if_pos q1, if_neg (by omega)]
  · rw [if_neg q1]
    by_cases q2 : n ≤ mf 13
    · rw [if_pos q2, if_pos (by omega)]
    · rw [if_neg q2, if_neg (by omega)]
/-- a box of sites -/
def sBox (rows sites lo hi fi la : Int) : Bool := decide (0 ≤ lo ∧ lo ≤ hi ∧ hi < rows ∧ 0 ≤ fi ∧ fi ≤ la ∧ la < sites)
theorem c_isBox {lo hi fi la : Int} (sz : mSz mf) (h1 : -2147483648 ≤ lo ∧ lo < 2147483648) (h2 : -2147483648 ≤ hi ∧ hi < 2147483648) (h3 : -2147483648 ≤ fi ∧ fi < 2147483648) (h4 : -2147483648 ≤ la ∧ la < 2147483648) : fm_X9_isBox N [.ref a, .int (iI lo), .int (iI hi), .int (iI fi), .int (iI la)] (mH h a mf ma) = some (sBox (mf 2) (mf 3) lo hi fi la, mH h a mf ma) := by
  rw [en_X9_isBox, eq_X9_isBox_0, if_pos m_isc, c_isSite sz.1 sz.2 h1 h3, Option.bind_some]
  simp (disch := omega) only [m_isc, c_isSite sz.1 sz.2 h2 h4, Option.bind_some, iI_zb, iI_ltD, eq_X9_isBox_34, eq_X9_isBox_35, iI_10, eq_self, ↓reduceIte]
  unfold sBox vIn
  by_cases q1 : (0 ≤ lo ∧ lo ≤ mf 2 - 1) ∧ (0 ≤ fi ∧ fi ≤ mf 3 - 1)
  · by_cases q2 : (0 ≤ hi ∧ hi ≤ mf 2 - 1) ∧ (0 ≤ la ∧ la ≤ mf 3 - 1)
    · by_cases q3 : hi < lo
      · rw [decide_eq_false (show ¬ (0 ≤ lo ∧ lo ≤ hi ∧ hi < mf 2 ∧ 0 ≤ fi ∧ fi ≤ la ∧ la < mf 3) by omega)]
        simp [q1, q2, q3]
      · by_cases q4 : la < fi
        · rw [decide_eq_false (show ¬ (0 ≤ lo ∧ lo ≤ hi ∧ hi < mf 2 ∧ 0 ≤ fi ∧ fi ≤ la ∧ la < mf 3) by omega)]
          simp [q1, q2, q3, q4]
        · rw [decide_eq_true (show (0 ≤ lo ∧ lo ≤ hi ∧ hi < mf 2 ∧ 0 ≤ fi ∧ fi ≤ la ∧ la < mf 3) by omega)]
          simp [q1, q2, q3, q4]
    · rw [decide_eq_false (show ¬ (0 ≤ lo ∧ lo ≤ hi ∧ hi < mf 2 ∧ 0 ≤ fi ∧ fi ≤ la ∧ la < mf 3) by omega)]
      have q2' : (decide (0 ≤ hi ∧ hi ≤ mf 2 - 1) && decide (0 ≤ la ∧ la ≤ mf 3 - 1)) = false := by
        rw [Bool.and_eq_false_iff, decide_eq_false_iff_not, decide_eq_false_iff_not]
        omega
      rw [q2']
      simp
  · rw [decide_eq_false (show ¬ (0 ≤ lo ∧ lo ≤ hi ∧ hi < mf 2 ∧ 0 ≤ fi ∧ fi ≤ la ∧ la < mf 3) by omega)]
    have q1' : (decide (0 ≤ lo ∧ lo ≤ mf 2 - 1) && decide (0 ≤ fi ∧ fi ≤ mf 3 - 1)) = false := by
      rw [Bool.and_eq_false_iff, decide_eq_false_iff_not, decide_eq_false_iff_not]
      omega
    rw [q1']
    simp
theorem c_write {i x y z w : Int} (h0 : 0 ≤ i) (h1 : i + 3 < 400) : fm_X9_write N [.ref a, .int (iI i), .int (iI x), .int (iI y), .int (iI z), .int (iI w)] (mH h a mf ma) = some (mH h a mf (mA ma 2 (rU (rU (rU (rU (ma 2) i x) (i + 1) y) (i + 2) z) (i + 3) w))) := by
  rw [en_X9_write, eq_X9_write_0]
  simp (disch := omega) only [m_r6, Option.bind_some, iI_add, m_s6, mU_mA, mA_2, mA_mA]
end M6
