/-! ===== the model: feed ===== -/
section M14
variable {N : Nat} {h : ka_H} {a : Nat} {mf : Nat → Int} {ma : Nat → Int → Int}
def rFeed (t : Int → Int) (n v1 v2 v3 v4 v5 : Int) : Int → Int := rFour (rFour (rFour (rFour (rFour t n v1) (n + 4) v2) (n + 4 + 4) v3) (n + 4 + 4 + 4) v4) (n + 4 + 4 + 4 + 4) v5
theorem c_feed {v1 v2 v3 v4 v5 : Int} (hN : 5000 ≤ N) (h13 : 0 ≤ mf 13 ∧ mf 13 ≤ 100) : fm_X9_feed N [.ref a, .int (iI v1), .int (iI v2), .int (iI v3), .int (iI v4), .int (iI v5)] (mH h a mf ma) = if mf 13 + 20 ≤ 100 then some (iI (mf 13 + 20), mH h a (mF (mF mf 0 0) 13 (mf 13 + 20)) (mA ma 7 (rFeed (ma 7) (mf 13) v1 v2 v3 v4 v5))) else some (iI (-1), mH h a (mF mf 0 0) ma) := by
  have e13 : mF mf 0 0 13 = mf 13 := rfl
  rw [en_X9_feed, eq_X9_feed_0, m_p0, Option.bind_some, m_g13, Option.bind_some, e13, iI_add]
  by_cases q : mf 13 + 20 ≤ 100
  · rw [if_pos ((iI_le ⟨by omega, by omega⟩ ⟨by omega, by omega⟩).mpr q), if_pos q, if_pos m_isc, c_four hN (by rw [e13]; omega), Option.bind_some, if_pos m_isc, c_four hN (by rw [mF_s]; omega), Option.bind_some, if_pos m_isc, c_four hN (by rw [mF_s, mF_s]; omega), Option.bind_some, if_pos m_isc, c_four hN (by rw [mF_s, mF_s, mF_s]; omega), Option.bind_some, if_pos m_isc, c_four hN (by rw [mF_s, mF_s, mF_s, mF_s]; omega), Option.bind_some, m_g13, Option.bind_some]
    simp only [mF_s, mA_2, mA_mA, e13]
    have em : mF (mF (mF (mF (mF (mF mf 0 0) 13 (mf 13 + 4)) 13 (mf 13 + 4 + 4)) 13 (mf 13 + 4 + 4 + 4)) 13 (mf 13 + 4 + 4 + 4 + 4)) 13 (mf 13 + 4 + 4 + 4 + 4 + 4) = mF (mF mf 0 0) 13 (mf 13 + 20) := by
      funext j
      unfold mF
      by_cases e : j = 13
      · rw [if_pos e, if_pos e]; omega
      · simp [e]
    rw [em, show mf 13 + 4 + 4 + 4 + 4 + 4 = mf 13 + 20 by omega]
    rfl
  · rw [if_neg (fun z => q ((iI_le ⟨by omega, by omega⟩ ⟨by omega, by omega⟩).mp z)), if_neg q]
end M14
