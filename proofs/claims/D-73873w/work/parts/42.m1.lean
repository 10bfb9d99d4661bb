/-! ===== the model's small methods ===== -/
section M1
variable {N : Nat} {h : ka_H} {a : Nat} {mf : Nat → Int} {ma : Nat → Int → Int}
theorem bo_id (b : Bool) (h : ka_H) : (if (if b = true then iI 1 else iI 0) = iI 0 then some (false, h) else if (if b = true then iI 1 else iI 0) = iI 1 then some (true, h) else none) = some (b, h) := by
  cases b
  · rw [if_pos (by decide)]
  · rw [if_neg (by decide), if_pos (by decide)]
/-- what a long comparison asks of its numbers -/
def vIn (v lo hi : Int) : Bool := decide (lo ≤ v ∧ v ≤ hi)
theorem c_in {v lo hi : Int} (h1 : -9000000000000000000 ≤ v) (h2 : v ≤ 9000000000000000000) (h3 : -9000000000000000000 ≤ lo) (h4 : lo ≤ 9000000000000000000) (h5 : -9000000000000000000 ≤ hi) (h6 : hi ≤ 9000000000000000000) : fm_X9_in N [.long (lI v), .long (lI lo), .long (lI hi)] h = some (vIn v lo hi, h) := by
  rw [en_X9_in, eq_X9_in_0, eq_X9_in_17, eq_X9_in_18, eq_X9_in_18]
  simp only [lI_cmp_lt h1 h2 h3 h4, lI_cmp_gt h1 h2 h5 h6]
  unfold vIn
  by_cases e1 : v < lo
  · rw [if_pos e1, if_pos trivial, decide_eq_false (by omega)]
  · rw [if_neg e1]
    by_cases e2 : hi < v
    · rw [if_pos e2, if_pos trivial, decide_eq_false (by omega)]
    · rw [if_neg e2, if_neg (by decide), if_pos trivial, decide_eq_true (by omega)]
theorem c_cellAt {c : Int} : fm_X9_cellAt N [.int (iI c)] h = some (iI (36 + 7 * c), h) := by
  rw [en_X9_cellAt, eq_X9_cellAt_0, iI_mul, iI_add]
theorem c_netAt {c : Int} : fm_X9_netAt N [.int (iI c)] h = some (iI (176 + 14 * c), h) := by
  rw [en_X9_netAt, eq_X9_netAt_0, iI_mul, iI_add]
theorem c_width {c : Int} (h0 : 0 ≤ c) (h1 : c < 20) : fm_X9_width N [.ref a, .int (iI c)] (mH h a mf ma) = some (iI (ma 2 (36 + 7 * c)), mH h a mf ma) := by
  rw [en_X9_width, eq_X9_width_0, m_r6, Option.bind_some, c_cellAt, Option.bind_some, m_l6 (by omega) (by omega), Option.bind_some]
theorem c_fenceOf {c : Int} (h0 : 0 ≤ c) (h1 : c < 20) : fm_X9_fenceOf N [.ref a, .int (iI c)] (mH h a mf ma) = some (iI (ma 2 (36 + 7 * c + 1)), mH h a mf ma) := by
  rw [en_X9_fenceOf, eq_X9_fenceOf_0, m_r6, Option.bind_some, c_cellAt, Option.bind_some, iI_add, m_l6 (by omega) (by omega), Option.bind_some]
/-- longs made of ints -/
theorem c_inI {v lo hi : Int} (h1 : -2147483648 ≤ v) (h2 : v < 2147483648) (h3 : -2147483648 ≤ lo) (h4 : lo < 2147483648) (h5 : -2147483648 ≤ hi) (h6 : hi < 2147483648) : fm_X9_in N [.long (iI v).toInt64, .long (iI lo).toInt64, .long (iI hi).toInt64] h = some (vIn v lo hi, h) := by
  rw [iI_long h1 h2, iI_long h3 h4, iI_long h5 h6]
  exact c_in (by omega) (by omega) (by omega) (by omega) (by omega) (by omega)
def sBlk (r : Int → Int) (R S : Int) (k : Nat) : Bool := vIn R (r (4 + 5 * k)) (r (4 + 5 * k + 1)) && vIn S (r (4 + 5 * k + 2) - r (4 + 5 * k + 4)) (r (4 + 5 * k + 3) + r (4 + 5 * k + 4))
def sBar (r : Int → Int) (R S : Int) : Bool := aP (sBlk r R S) (r 0).toNat
theorem c_isBarred {R S : Int} (hN : 5000 ≤ N) (hB : ∀ i, -1 ≤ ma 2 i ∧ ma 2 i ≤ 600) (h0 : 0 ≤ ma 2 0 ∧ ma 2 0 ≤ 4) (hR : -10000 ≤ R ∧ R ≤ 10000) (hS : -10000 ≤ S ∧ S ≤ 10000) : fm_X9_isBarred N [.ref a, .int (iI R), .int (iI S)] (mH h a mf ma) = some (sBar (ma 2) R S, mH h a mf ma) := by
  rw [en_X9_isBarred, eq_X9_isBarred_0]
  obtain ⟨e, he⟩ : ∃ e : Nat, ma 2 0 = e := ⟨(ma 2 0).toNat, by omega⟩
  have key := fix_up (B := cm_X9_isBarred_5 N) (R := some (sBar (ma 2) R S, mH h a mf ma)) (fun i => [some (.ref a), some (.int (iI R)), some (.int (iI S)), some (.int (if aP (sBlk (ma 2) R S) i = true then iI 1 else iI 0)), some (.int (iI i))]) (fun _ => mH h a mf ma) e ?_ ?_ N 0 (by omega) (by omega)
  · exact key
  · intro K
    rw [eq_X9_isBarred_5]
    simp (disch := omega) only [m_r6, Option.bind_some, m_l6, he, iI_leD]
    rw [if_pos (by omega), bo_id]
    unfold sBar
    rw [he, Int.toNat_natCast]
  · intro K i hi
    rw [eq_X9_isBarred_5]
    have b1 := hB (4 + 5 * i)
    have b2 := hB (4 + 5 * i + 1)
    have b3 := hB (4 + 5 * i + 2)
    have b4 := hB (4 + 5 * i + 3)
    have b5 := hB (4 + 5 * i + 4)
    simp (disch := omega) only [m_r6, Option.bind_some, m_l6, he, iI_leD, iI_mul, iI_add, iI_sub, c_inI, eq_X9_isBarred_102, eq_X9_isBarred_106, eq_X9_isBarred_107, eq_X9_isBarred_69, iI_zb]
    rw [if_neg (by omega)]
    show _ = K [some (.ref a), some (.int (iI R)), some (.int (iI S)), some (.int (if aP (sBlk (ma 2) R S) (i + 1) = true then iI 1 else iI 0)), some (.int (iI ((i + 1 : Nat) : Int)))] [] _
    have ei : ((i + 1 : Nat) : Int) = (i : Int) + 1 := by omega
    rw [ei]
    simp only [aP, sBlk]
    by_cases q1 : aP (sBlk (ma 2) R S) i = true <;> by_cases q2 : vIn R (ma 2 (4 + 5 * i)) (ma 2 (4 + 5 * i + 1)) = true <;> by_cases q3 : vIn S (ma 2 (4 + 5 * i + 2) - ma 2 (4 + 5 * i + 4)) (ma 2 (4 + 5 * i + 3) + ma 2 (4 + 5 * i + 4)) = true <;> simp [q1, q2, q3]
end M1
