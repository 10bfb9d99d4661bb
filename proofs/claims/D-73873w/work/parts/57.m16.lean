/-! ===== the model: pins ===== -/
section M16
variable {N : Nat} {h : ka_H} {a : Nat} {mf : Nat → Int} {ma : Nat → Int → Int}
theorem c_pinMany {n : Int} (h0 : 0 ≤ n) (h1 : n < 16) : fm_X9_pinMany N [.ref a, .int (iI n)] (mH h a mf ma) = some (iI (ma 2 (176 + 14 * n + 1)), mH h a mf ma) := by
  rw [en_X9_pinMany, eq_X9_pinMany_0, m_r6, Option.bind_some, c_netAt, Option.bind_some]
  dsimp only
  rw [iI_add, m_l6 (by omega) (by omega), Option.bind_some]
/-- whose pin, and where -/
def sWho (r : Int → Int) (n k : Int) : Int := r (176 + 14 * n + 2 + 2 * k)
def sWhr (r : Int → Int) (n k : Int) : Int := r (176 + 14 * n + 2 + 2 * k + 1)
theorem c_pinCell {n k : Int} (hB : rB (ma 2)) (h0 : 0 ≤ n) (h1 : n < 16) (h2 : 0 ≤ k) (h3 : k < 6) : fm_X9_pinCell N [.ref a, .int (iI n), .int (iI k)] (mH h a mf ma) = some (iI (if sWho (ma 2) n k < 200 then sWho (ma 2) n k else -1), mH h a mf ma) := by
  have b := hB (176 + 14 * n + 2 + 2 * k)
  rw [en_X9_pinCell, eq_X9_pinCell_0, m_r6, Option.bind_some, c_netAt, Option.bind_some]
  dsimp only
  rw [iI_add, iI_mul, iI_add, m_l6 (by omega) (by omega), Option.bind_some]
  unfold sWho
  by_cases q : ma 2 (176 + 14 * n + 2 + 2 * k) < 200
  · rw [if_pos ((iI_lt ⟨by omega, by omega⟩ ⟨by omega, by omega⟩).mpr q), if_pos q, eq_X9_pinCell_28]
  · rw [if_neg (fun z => q ((iI_lt ⟨by omega, by omega⟩ ⟨by omega, by omega⟩).mp z)), if_neg q, eq_X9_pinCell_28]
theorem c_second {n k : Int} (h0 : 0 ≤ n) (h1 : n < 16) (h2 : 0 ≤ k) (h3 : k < 6) : fm_X9_second N [.ref a, .int (iI n), .int (iI k)] (mH h a mf ma) = some (iI (sWhr (ma 2) n k), mH h a mf ma) := by
  rw [en_X9_second, eq_X9_second_0, m_r6, Option.bind_some, c_netAt, Option.bind_some]
  dsimp only
  rw [iI_add, iI_mul, iI_add, iI_add, m_l6 (by omega) (by omega), Option.bind_some]
  rfl
end M16
