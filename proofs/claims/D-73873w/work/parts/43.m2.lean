/-! ===== the model: what is at a site ===== -/
theorem iI_10 : (iI 1 = iI 0) = False := by simp; decide
theorem iI_01 : (iI 0 = iI 1) = False := by simp; decide
section M2
variable {N : Nat} {h : ka_H} {a : Nat} {mf : Nat → Int} {ma : Nat → Int → Int}
/-- all numbers of the row are small -/
def rB (r : Int → Int) : Prop := ∀ i, -1 ≤ r i ∧ r i ≤ 600
theorem c_isSite {R S : Int} (h2 : 1 ≤ mf 2 ∧ mf 2 ≤ 8) (h3 : 8 ≤ mf 3 ∧ mf 3 ≤ 32) (hR : -2147483648 ≤ R ∧ R < 2147483648) (hS : -2147483648 ≤ S ∧ S < 2147483648) : fm_X9_isSite N [.ref a, .int (iI R), .int (iI S)] (mH h a mf ma) = some (vIn R 0 (mf 2 - 1) && vIn S 0 (mf 3 - 1), mH h a mf ma) := by
  rw [en_X9_isSite, eq_X9_isSite_0]
  simp (disch := omega) only [m_g2, m_g3, Option.bind_some, iI_long, lI_sub, c_in, eq_X9_isSite_36, eq_X9_isSite_37, iI_zb, iI_10, eq_self, ↓reduceIte]
  by_cases q1 : vIn R 0 (mf 2 - 1) = true <;> by_cases q2 : vIn S 0 (mf 3 - 1) = true <;> simp [q1, q2]
theorem c_isCell {c : Int} (hc : -2147483648 ≤ c ∧ c < 2147483648) (hB : rB (ma 2)) : fm_X9_isCell N [.ref a, .int (iI c)] (mH h a mf ma) = some (vIn c 0 (ma 2 2 - 1), mH h a mf ma) := by
  have b := hB 2
  rw [en_X9_isCell, eq_X9_isCell_0]
  simp (disch := omega) only [m_r6, m_l6, Option.bind_some, iI_long, lI_sub, c_in, bo_id]
theorem c_isNet {c : Int} (hc : -2147483648 ≤ c ∧ c < 2147483648) (hB : rB (ma 2)) : fm_X9_isNet N [.ref a, .int (iI c)] (mH h a mf ma) = some (vIn c 0 (ma 2 3 - 1), mH h a mf ma) := by
  have b := hB 3
  rw [en_X9_isNet, eq_X9_isNet_0]
  simp (disch := omega) only [m_r6, m_l6, Option.bind_some, iI_long, lI_sub, c_in, bo_id]
theorem c_isFence {c : Int} (hc : -2147483648 ≤ c ∧ c < 2147483648) (hB : rB (ma 2)) : fm_X9_isFence N [.ref a, .int (iI c)] (mH h a mf ma) = some (vIn c 0 (ma 2 1 - 1), mH h a mf ma) := by
  have b := hB 1
  rw [en_X9_isFence, eq_X9_isFence_0]
  simp (disch := omega) only [m_r6, m_l6, Option.bind_some, iI_long, lI_sub, c_in, bo_id]
def sFin (r : Int → Int) (R S : Int) (f : Nat) : Bool := vIn R (r (24 + 4 * f)) (r (24 + 4 * f + 1)) && vIn S (r (24 + 4 * f + 2)) (r (24 + 4 * f + 3))
def sFen (r : Int → Int) (R S : Int) : Int := aL (sFin r R S) (r 1).toNat
theorem c_isInFence {f : Nat} {R S : Int} (hf : f < 3) (hB : rB (ma 2)) (hR : -10000 ≤ R ∧ R ≤ 10000) (hS : -10000 ≤ S ∧ S ≤ 10000) : fm_X9_isInFence N [.ref a, .int (iI f), .int (iI R), .int (iI S)] (mH h a mf ma) = some (sFin (ma 2) R S f, mH h a mf ma) := by
  have b1 := hB (24 + 4 * f)
  have b2 := hB (24 + 4 * f + 1)
  have b3 := hB (24 + 4 * f + 2)
  have b4 := hB (24 + 4 * f + 3)
  rw [en_X9_isInFence, eq_X9_isInFence_0]
  simp (disch := omega) only [m_r6, m_l6, Option.bind_some, iI_mul, iI_add, c_inI, eq_X9_isInFence_62, eq_X9_isInFence_66, eq_X9_isInFence_67, iI_zb, iI_10, eq_self, ↓reduceIte]
  unfold sFin
  by_cases q1 : vIn R (ma 2 (24 + 4 * f)) (ma 2 (24 + 4 * f + 1)) = true <;> by_cases q2 : vIn S (ma 2 (24 + 4 * f + 2)) (ma 2 (24 + 4 * f + 3)) = true <;> simp [q1, q2]
theorem c_fenceThere {R S : Int} (hN : 5000 ≤ N) (hB : rB (ma 2)) (h0 : 0 ≤ ma 2 1 ∧ ma 2 1 ≤ 3) (hR : -10000 ≤ R ∧ R ≤ 10000) (hS : -10000 ≤ S ∧ S ≤ 10000) : fm_X9_fenceThere N [.ref a, .int (iI R), .int (iI S)] (mH h a mf ma) = some (iI (sFen (ma 2) R S), mH h a mf ma) := by
  rw [en_X9_fenceThere, eq_X9_fenceThere_0]
  obtain ⟨e, he⟩ : ∃ e : Nat, ma 2 1 = e := ⟨(ma 2 1).toNat, by omega⟩
  refine fix_up (B := cm_X9_fenceThere_5 N) (fun i => [some (.ref a), some (.int (iI R)), some (.int (iI S)), some (.int (iI (aL (sFin (ma 2) R S) i))), some (.int (iI i))]) (fun _ => mH h a mf ma) e ?_ ?_ N 0 (by omega) (by omega)
  · intro K
    rw [eq_X9_fenceThere_5]
    simp (disch := omega) only [m_r6, Option.bind_some, m_l6, he, iI_leD, Int.le_refl, ↓reduceIte]
    unfold sFen
    rw [he, Int.toNat_natCast]
  · intro K i hi
    rw [eq_X9_fenceThere_5]
    have c1 := c_isInFence (N := N) (h := h) (a := a) (mf := mf) (ma := ma) (f := i) (by omega) hB hR hS
    simp (disch := omega) only [m_r6, Option.bind_some, m_l6, he, iI_leD, m_isc, c1, eq_X9_fenceThere_33, iI_zb, iI_add, ↓reduceIte]
    rw [if_neg (by omega)]
    have ei : ((i + 1 : Nat) : Int) = (i : Int) + 1 := by omega
    show _ = K [some (.ref a), some (.int (iI R)), some (.int (iI S)), some (.int (iI (aL (sFin (ma 2) R S) (i + 1)))), some (.int (iI ((i + 1 : Nat) : Int)))] [] _
    rw [ei, aL]
    by_cases q : sFin (ma 2) R S i = true <;> simp [q]
def sCov (r : Int → Int) (R S : Int) (c : Nat) : Bool := decide (r (36 + 7 * c + 5) = R) && vIn S (r (36 + 7 * c + 6)) (r (36 + 7 * c + 6) + r (36 + 7 * c) - 1)
def sFix (r : Int → Int) (c : Nat) : Bool := decide (r (36 + 7 * c + 2) = 1)
def sHas (r : Int → Int) (c : Nat) : Bool := decide (¬ r (36 + 7 * c + 5) = -1)
theorem c_isFixed {c : Nat} (hc : c < 20) (hB : rB (ma 2)) : fm_X9_isFixed N [.ref a, .int (iI c)] (mH h a mf ma) = some (sFix (ma 2) c, mH h a mf ma) := by
  have b1 := hB (36 + 7 * c + 2)
  rw [en_X9_isFixed, eq_X9_isFixed_0]
  simp (disch := omega) only [m_r6, m_l6, Option.bind_some, c_cellAt, iI_add, eq_X9_isFixed_20, iI_eqD, iI_10, eq_self, ↓reduceIte]
  unfold sFix
  by_cases q : ma 2 (36 + 7 * c + 2) = 1 <;> simp [q]
theorem c_hasSpot {c : Nat} (hc : c < 20) (hB : rB (ma 2)) : fm_X9_hasSpot N [.ref a, .int (iI c)] (mH h a mf ma) = some (sHas (ma 2) c, mH h a mf ma) := by
  have b1 := hB (36 + 7 * c + 5)
  rw [en_X9_hasSpot, eq_X9_hasSpot_0]
  simp (disch := omega) only [m_r6, m_l6, Option.bind_some, c_cellAt, iI_add, eq_X9_hasSpot_20, iI_eqD, iI_10, eq_self, ↓reduceIte]
  unfold sHas
  by_cases q : ma 2 (36 + 7 * c + 5) = -1 <;> simp [q]
theorem c_covers {c : Nat} {R S : Int} (hc : c < 20) (hB : rB (ma 2)) (hR : -10000 ≤ R ∧ R ≤ 10000) (hS : -10000 ≤ S ∧ S ≤ 10000) : fm_X9_covers N [.ref a, .int (iI c), .int (iI R), .int (iI S)] (mH h a mf ma) = some (sCov (ma 2) R S c, mH h a mf ma) := by
  have b1 := hB (36 + 7 * c + 5)
  have b2 := hB (36 + 7 * c + 6)
  have b3 := hB (36 + 7 * c)
  rw [en_X9_covers, eq_X9_covers_0]
  simp (disch := omega) only [m_r6, m_l6, Option.bind_some, c_cellAt, iI_add, eq_X9_covers_63, eq_X9_covers_64, iI_eqD, iI_long, lI_sub, c_in, iI_zb, iI_10, eq_self, ↓reduceIte]
  unfold sCov
  by_cases q : ma 2 (36 + 7 * c + 5) = R <;> by_cases q2 : vIn S (ma 2 (36 + 7 * c + 6)) (ma 2 (36 + 7 * c + 6) + ma 2 (36 + 7 * c) - 1) = true <;> simp [q, q2]
end M2
