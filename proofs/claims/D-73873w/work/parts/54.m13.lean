/-! ===== the model: the tape ===== -/
section M13
variable {N : Nat} {h : ka_H} {a : Nat} {mf : Nat → Int} {ma : Nat → Int → Int}
/-- a byte of an int -/
def tB (v k : Int) : Int := ((iI v >>> (iI k &&& 31)) &&& iI 255).toInt
theorem tB_iI (v k : Int) : ((iI v >>> (iI k &&& 31)) &&& iI 255) = iI (tB v k) := (Int32.ofInt_toInt _).symm
theorem tB_b (v k : Int) : 0 ≤ tB v k ∧ tB v k ≤ 255 := by
  unfold tB
  have e := pk_and (iI v >>> (iI k &&& 31)) (m := iI 255) 8 (by decide)
  rw [e, nI_toInt (by omega)]
  omega
def rFour (t : Int → Int) (n v : Int) : Int → Int := rU (rU (rU (rU t n (tB v 24)) (n + 1) (tB v 16)) (n + 2) (tB v 8)) (n + 3) (tB v 0)
theorem c_four {v : Int} (hN : 5000 ≤ N) (h13 : 0 ≤ mf 13 ∧ mf 13 + 4 ≤ 100) : fm_X9_four N [.ref a, .int (iI v)] (mH h a mf ma) = some (mH h a (mF mf 13 (mf 13 + 4)) (mA ma 7 (rFour (ma 7) (mf 13) v))) := by
  obtain ⟨n, rfl⟩ : ∃ n, N = n + 5 := ⟨N - 5, by omega⟩
  have step : ∀ (K : ka_K ka_H) (k : Int) (mf : Nat → Int) (ma : Nat → Int → Int), 0 ≤ k → k ≤ 24 → 0 ≤ mf 13 → mf 13 < 100 → cm_X9_four_3 (n + 5) K [some (.ref a), some (.int (iI v)), some (.int (iI k))] [] (mH h a mf ma) = K [some (.ref a), some (.int (iI v)), some (.int (iI (k + -8)))] [] (mH h a (mF mf 13 (mf 13 + 1)) (mA ma 7 (rU (ma 7) (mf 13) (tB v k)))) := by
    intro K k mf ma k0 k1 b0 b1
    rw [eq_X9_four_3, if_neg (fun z => absurd ((iI_lt ⟨by omega, by omega⟩ ⟨by omega, by omega⟩).mp z) (by omega)), m_r12, Option.bind_some, m_g13, Option.bind_some, tB_iI, m_s12 b0 b1, Option.bind_some, m_g13, Option.bind_some, iI_add, m_p13, Option.bind_some, iI_add, mU_mA]
  rw [en_X9_four, eq_X9_four_0]
  conv => lhs; rw [ki_fix_s]
  rw [step _ 24 mf ma (by omega) (by omega) (by omega) (by omega)]
  conv => lhs; rw [ki_fix_s]
  rw [step _ _ _ _ (by omega) (by omega) (by rw [mF_s]; omega) (by rw [mF_s]; omega)]
  conv => lhs; rw [ki_fix_s]
  rw [step _ _ _ _ (by omega) (by omega) (by rw [mF_s, mF_s]; omega) (by rw [mF_s, mF_s]; omega)]
  conv => lhs; rw [ki_fix_s]
  rw [step _ _ _ _ (by omega) (by omega) (by rw [mF_s, mF_s, mF_s]; omega) (by rw [mF_s, mF_s, mF_s]; omega)]
  conv => lhs; rw [ki_fix_s]
  rw [eq_X9_four_3, if_pos (by decide)]
  simp only [mF_s, mA_2, mA_mA]
  have em : mF (mF (mF (mF mf 13 (mf 13 + 1)) 13 (mf 13 + 1 + 1)) 13 (mf 13 + 1 + 1 + 1)) 13 (mf 13 + 1 + 1 + 1 + 1) = mF mf 13 (mf 13 + 4) := by
    funext j
    unfold mF
    by_cases e : j = 13
    · rw [if_pos e, if_pos e]; omega
    · simp [e]
  rw [em]
  unfold rFour
  rw [show mf 13 + 2 = mf 13 + 1 + 1 by omega, show mf 13 + 3 = mf 13 + 1 + 1 + 1 by omega]
  rfl
end M13
