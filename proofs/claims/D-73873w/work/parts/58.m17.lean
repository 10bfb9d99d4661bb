/-! ===== the model: where pins are ===== -/
section M17
variable {N : Nat} {h : ka_H} {a : Nat} {mf : Nat → Int} {ma : Nat → Int → Int}
/-- a pin's x and y; at spots, if told so -/
def sPX (r : Int → Int) (sp : Bool) (n k : Int) : Int := if sWho r n k < 200 then (if (sp && sHas r (sWho r n k).toNat) = true then 16 * r (36 + 7 * sWho r n k + 6) else r (36 + 7 * sWho r n k + 3)) + 16 * sWhr r n k + 8 else 16 * sWhr r n k + 8
def sPY (r : Int → Int) (sp : Bool) (n k : Int) : Int := if sWho r n k < 200 then (if (sp && sHas r (sWho r n k).toNat) = true then 16 * r (36 + 7 * sWho r n k + 5) else r (36 + 7 * sWho r n k + 4)) + 8 else 16 * (sWho r n k - 200) + 8
theorem c_pinX {n k : Int} {sp : Bool} (hB : rB (ma 2)) (h0 : 0 ≤ n) (h1 : n < 16) (h2 : 0 ≤ k) (h3 : k < 6) (hw : sWho (ma 2) n k < 200 → 0 ≤ sWho (ma 2) n k ∧ sWho (ma 2) n k < 20) : fm_X9_pinX N [.ref a, .int (iI n), .int (iI k), .int (if sp = true then iI 1 else iI 0)] (mH h a mf ma) = some (iI (sPX (ma 2) sp n k), mH h a mf ma) := by
  rw [en_X9_pinX, eq_X9_pinX_0, if_pos m_isc, c_pinCell hB h0 h1 h2 h3, Option.bind_some]
  dsimp only
  by_cases q : sWho (ma 2) n k < 200
  · obtain ⟨w0, w1⟩ := hw q
    obtain ⟨c, hc⟩ : ∃ c : Nat, sWho (ma 2) n k = c := ⟨(sWho (ma 2) n k).toNat, by omega⟩
    unfold sPX
    rw [hc] at w0 w1 q ⊢
    rw [if_pos q, if_pos q, if_pos (by rw [iI_eq ⟨by omega, by omega⟩ ⟨by omega, by omega⟩]; omega), Int.toNat_natCast]
    simp (disch := omega) only [iI_zb, m_isc, c_hasSpot (N := N) (h := h) (a := a) (mf := mf) (ma := ma) (c := c) (by omega) hB, Option.bind_some, eq_X9_pinX_59, eq_X9_pinX_71, m_r6, c_cellAt, iI_add, iI_mul, m_l6, c_second h0 h1 h2 h3, ↓reduceIte]
    by_cases q1 : sp = true <;> by_cases q2 : sHas (ma 2) c = true <;> simp [q1, q2]
  · rw [if_neg q, if_neg (fun z => z rfl), if_pos m_isc, c_second h0 h1 h2 h3, Option.bind_some]
    dsimp only
    rw [iI_mul, iI_add]
    unfold sPX
    rw [if_neg q]
theorem c_pinY {n k : Int} {sp : Bool} (hB : rB (ma 2)) (h0 : 0 ≤ n) (h1 : n < 16) (h2 : 0 ≤ k) (h3 : k < 6) (hw : sWho (ma 2) n k < 200 → 0 ≤ sWho (ma 2) n k ∧ sWho (ma 2) n k < 20) : fm_X9_pinY N [.ref a, .int (iI n), .int (iI k), .int (if sp = true then iI 1 else iI 0)] (mH h a mf ma) = some (iI (sPY (ma 2) sp n k), mH h a mf ma) := by
  rw [en_X9_pinY, eq_X9_pinY_0, if_pos m_isc, c_pinCell hB h0 h1 h2 h3, Option.bind_some]
  dsimp only
  by_cases q : sWho (ma 2) n k < 200
  · obtain ⟨w0, w1⟩ := hw q
    obtain ⟨c, hc⟩ : ∃ c : Nat, sWho (ma 2) n k = c := ⟨(sWho (ma 2) n k).toNat, by omega⟩
    unfold sPY
    rw [hc] at w0 w1 q ⊢
    rw [if_pos q, if_pos q, if_pos (by rw [iI_eq ⟨by omega, by omega⟩ ⟨by omega, by omega⟩]; omega), Int.toNat_natCast]
    simp (disch := omega) only [iI_zb, m_isc, c_hasSpot (N := N) (h := h) (a := a) (mf := mf) (ma := ma) (c := c) (by omega) hB, Option.bind_some, eq_X9_pinY_71, eq_X9_pinY_83, m_r6, c_cellAt, iI_add, iI_mul, m_l6, ↓reduceIte]
    by_cases q1 : sp = true <;> by_cases q2 : sHas (ma 2) c = true <;> simp [q1, q2]
  · rw [if_neg q, if_neg (fun z => z rfl), m_r6, Option.bind_some, c_netAt, Option.bind_some]
    dsimp only
    rw [iI_add, iI_mul, iI_add, m_l6 (by omega) (by omega), Option.bind_some, iI_sub, iI_mul, iI_add]
    unfold sPY
    rw [if_neg q]
    rfl
def sPin (r : Int → Int) (sp up : Bool) (n k : Int) : Int := if up = true then sPY r sp n k else sPX r sp n k
theorem c_pinIs {n k : Int} {sp up : Bool} (hB : rB (ma 2)) (h0 : 0 ≤ n) (h1 : n < 16) (h2 : 0 ≤ k) (h3 : k < 6) (hw : sWho (ma 2) n k < 200 → 0 ≤ sWho (ma 2) n k ∧ sWho (ma 2) n k < 20) : fm_X9_pinIs N [.ref a, .int (iI n), .int (iI k), .int (if sp = true then iI 1 else iI 0), .int (if up = true then iI 1 else iI 0)] (mH h a mf ma) = some (iI (sPin (ma 2) sp up n k), mH h a mf ma) := by
  rw [en_X9_pinIs, eq_X9_pinIs_0]
  simp only [iI_zb, m_isc, c_pinX hB h0 h1 h2 h3 hw, c_pinY hB h0 h1 h2 h3 hw, Option.bind_some, eq_X9_pinIs_22, ↓reduceIte]
  unfold sPin
  by_cases q : up = true <;> simp [q]
end M17
