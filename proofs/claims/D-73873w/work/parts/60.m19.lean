/-! ===== the model: span ===== -/
section M19
variable {N : Nat} {h : ka_H} {a : Nat} {mf : Nat → Int} {ma : Nat → Int → Int}
/-- a net's pins are few, and are cells' that are there -/
def nOk (r : Int → Int) : Prop := ∀ n : Int, 0 ≤ n → n < r 3 → (2 ≤ r (176 + 14 * n + 1) ∧ r (176 + 14 * n + 1) ≤ 6) ∧ ∀ k : Int, 0 ≤ k → k < r (176 + 14 * n + 1) → sWho r n k < 200 → 0 ≤ sWho r n k ∧ sWho r n k < r 2
def sLe (r : Int → Int) (sp up : Bool) (n : Int) : Int := aMn (fun k => sPin r sp up n k) 100000000 (r (176 + 14 * n + 1)).toNat
def sGr (r : Int → Int) (sp up : Bool) (n : Int) : Int := aMx (fun k => sPin r sp up n k) (-100000000) (r (176 + 14 * n + 1)).toNat
def sSpan (tall : Int) (r : Int → Int) (n : Int) : Int := (sGr r true false n - sLe r true false n) + tall * (sGr r true true n - sLe r true true n)
theorem c_lo {n : Int} {sp up : Bool} (hN : 5000 ≤ N) (ok : rOk (ma 2)) (nk : nOk (ma 2)) (h0 : 0 ≤ n) (h1 : n < ma 2 3) : fm_X9_leastOf N [.ref a, .int (iI n), .int (if sp = true then iI 1 else iI 0), .int (if up = true then iI 1 else iI 0)] (mH h a mf ma) = some (iI (sLe (ma 2) sp up n), mH h a mf ma) := by
  obtain ⟨k1, k2⟩ := nk n h0 h1
  have g2 := ok.2.2.2.1
  have g3 := ok.2.2.2.2.1
  exact c_leastOf hN ok.1 h0 (by omega) (by omega) (fun k a1 a2 a3 => by have := k2 k a1 a2 a3; omega)
theorem c_hi {n : Int} {sp up : Bool} (hN : 5000 ≤ N) (ok : rOk (ma 2)) (nk : nOk (ma 2)) (h0 : 0 ≤ n) (h1 : n < ma 2 3) : fm_X9_greatestOf N [.ref a, .int (iI n), .int (if sp = true then iI 1 else iI 0), .int (if up = true then iI 1 else iI 0)] (mH h a mf ma) = some (iI (sGr (ma 2) sp up n), mH h a mf ma) := by
  obtain ⟨k1, k2⟩ := nk n h0 h1
  have g2 := ok.2.2.2.1
  have g3 := ok.2.2.2.2.1
  exact c_greatestOf hN ok.1 h0 (by omega) (by omega) (fun k a1 a2 a3 => by have := k2 k a1 a2 a3; omega)
theorem c_span {n : Int} (hN : 5000 ≤ N) (ok : rOk (ma 2)) (nk : nOk (ma 2)) (h0 : 0 ≤ n) (h1 : n < ma 2 3) : fm_X9_span N [.ref a, .int (iI n)] (mH h a mf ma) = some (iI (sSpan (ma 1 4) (ma 2) n), mH h a mf ma) := by
  have d1 := c_hi (N := N) (h := h) (a := a) (mf := mf) (ma := ma) (sp := true) (up := false) hN ok nk h0 h1
  have d2 := c_lo (N := N) (h := h) (a := a) (mf := mf) (ma := ma) (sp := true) (up := false) hN ok nk h0 h1
  have d3 := c_hi (N := N) (h := h) (a := a) (mf := mf) (ma := ma) (sp := true) (up := true) hN ok nk h0 h1
  have d4 := c_lo (N := N) (h := h) (a := a) (mf := mf) (ma := ma) (sp := true) (up := true) hN ok nk h0 h1
  rw [show (if true = true then iI 1 else iI 0) = iI 1 from rfl] at d1 d2 d3 d4
  rw [show (if false = true then iI 1 else iI 0) = iI 0 from rfl] at d1 d2
  rw [en_X9_span, eq_X9_span_0, if_pos m_isc, d1, Option.bind_some]
  dsimp only
  rw [if_pos m_isc, d2, Option.bind_some]
  dsimp only
  rw [m_r5, Option.bind_some, m_l5 (by omega) (by omega), Option.bind_some, if_pos m_isc, d3, Option.bind_some]
  dsimp only
  rw [if_pos m_isc, d4, Option.bind_some]
  dsimp only
  rw [iI_sub, iI_sub, iI_mul, iI_add]
  rfl
end M19
