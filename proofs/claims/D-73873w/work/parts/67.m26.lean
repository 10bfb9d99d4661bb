/-! ===== the model: where cells are held, a cell's start ===== -/
/-- fences of cells are there; weights of nets are small -/
def fOk (r : Int → Int) : Prop := ∀ c : Int, 0 ≤ c → c < r 2 → -1 ≤ r (36 + 7 * c + 1) ∧ r (36 + 7 * c + 1) < r 1
def wOk (r : Int → Int) : Prop := ∀ n : Int, 0 ≤ n → n < r 3 → 1 ≤ r (176 + 14 * n) ∧ r (176 + 14 * n) ≤ 9
def vOk (r : Int → Int) : Prop := rOk r ∧ nOk r ∧ fOk r ∧ wOk r
theorem vOk_of {r r' : Int → Int} (v : vOk r) (hB : rB r') (h : ∀ j, ¬ (36 ≤ j ∧ j < 176 ∧ 2 ≤ (j - 36) % 7) → r' j = r j) : vOk r' := by
  obtain ⟨⟨h1, h2, h3, h4, h5, h6⟩, n, f, w⟩ := v
  have e0 := h 0 (by omega)
  have e1 := h 1 (by omega)
  have e2 := h 2 (by omega)
  have e3 := h 3 (by omega)
  refine ⟨⟨hB, by rw [e0]; exact h2, by rw [e1]; exact h3, by rw [e2]; exact h4, by rw [e3]; exact h5, ?_⟩, nOk_of e2 e3 (fun j hj => h j (by omega)) n, ?_, ?_⟩
  · intro c c0 hc
    rw [e2] at hc
    rw [h _ (by omega)]
    exact h6 c c0 hc
  · intro c c0 hc
    rw [e2] at hc
    rw [h _ (by omega), e1]
    exact f c c0 hc
  · intro c c0 hc
    rw [e3] at hc
    rw [h _ (by omega)]
    exact w c c0 hc
theorem vOk_give {r : Int → Int} {c R S : Int} (v : vOk r) (h0 : 0 ≤ c) (h1 : c < 20) (hR : -1 ≤ R ∧ R ≤ 600) (hS : -1 ≤ S ∧ S ≤ 600) : vOk (rGive r c R S) := vOk_of v (rOk_give v.1 h0 hR hS).1 (fun j hj => rGive_n (by omega) (by omega))
theorem vOk_u {r : Int → Int} {c k x : Int} (v : vOk r) (h0 : 0 ≤ c) (h1 : c < 20) (hk : 2 ≤ k ∧ k ≤ 6) (hx : -1 ≤ x ∧ x ≤ 600) : vOk (rU r (36 + 7 * c + k) x) := vOk_of v (rB_rU v.1.1 hx) (fun j hj => rU_n (by omega))
def sHeld (v lo hi : Int) : Int := if v ≤ hi then (if lo ≤ v then v else lo) else hi
def sHX0 (r : Int → Int) (c x : Int) : Int := sHeld x (16 * r (24 + 4 * r (36 + 7 * c + 1) + 2)) (16 * (if r (24 + 4 * r (36 + 7 * c + 1) + 2) ≤ r (24 + 4 * r (36 + 7 * c + 1) + 3) - r (36 + 7 * c) + 1 then r (24 + 4 * r (36 + 7 * c + 1) + 3) - r (36 + 7 * c) + 1 else r (24 + 4 * r (36 + 7 * c + 1) + 2)))
def sHX (sites : Int) (r : Int → Int) (c x : Int) : Int := sHeld (if r (36 + 7 * c + 1) = -1 then x else sHX0 r c x) 0 (16 * (sites - r (36 + 7 * c)))
def sHY (rows : Int) (r : Int → Int) (c y : Int) : Int := sHeld (if r (36 + 7 * c + 1) = -1 then y else sHeld y (16 * r (24 + 4 * r (36 + 7 * c + 1))) (16 * r (24 + 4 * r (36 + 7 * c + 1) + 1))) 0 (16 * (rows - 1))
theorem sHeld_b {v lo hi : Int} (h : lo ≤ hi) : lo ≤ sHeld v lo hi ∧ sHeld v lo hi ≤ hi := by
  unfold sHeld
  repeat' split
  all_goals omega
theorem sHX_b {sites : Int} {r : Int → Int} {c x : Int} (h : r (36 + 7 * c) ≤ sites) : 0 ≤ sHX sites r c x ∧ sHX sites r c x ≤ 16 * (sites - r (36 + 7 * c)) := sHeld_b (by omega)
theorem sHY_b {rows : Int} {r : Int → Int} {c y : Int} (h : 1 ≤ rows) : 0 ≤ sHY rows r c y ∧ sHY rows r c y ≤ 16 * (rows - 1) := sHeld_b (by omega)
theorem down_neg {x y : Int} (hy : 0 < y) : -((y - 1 - x) / y) = x / y := by
  have h1 := Int.mul_ediv_add_emod x y
  have h2 := Int.emod_nonneg x (show y ≠ 0 by omega)
  have h3 := Int.emod_lt_of_pos x hy
  have h4 : (y - 1 - x) / y = -(x / y) := by
    have e : y - 1 - x = (y - 1 - x % y) + y * (-(x / y)) := by
      rw [Int.mul_neg]
      omega
    rw [e, Int.add_mul_ediv_left _ _ (by omega), Int.ediv_eq_zero_of_lt (by omega) (by omega), Int.zero_add]
  omega
section M26
variable {N : Nat} {h : ka_H} {a : Nat} {mf : Nat → Int} {ma : Nat → Int → Int}
theorem c_heldX {c x : Int} (v : vOk (ma 2)) (sz : mSz mf) (h0 : 0 ≤ c) (h1 : c < ma 2 2) (hx : -100000000 ≤ x ∧ x ≤ 100000000) : fm_X9_heldX N [.ref a, .int (iI c), .int (iI x)] (mH h a mf ma) = some (iI (sHX (mf 3) (ma 2) c x), mH h a mf ma) := by
  have g1 := v.1.2.2.1
  have g2 := v.1.2.2.2.1
  have f := v.2.2.1 c h0 h1
  have w := v.1.2.2.2.2.2 c h0 h1
  have s2 := sz.2
  have b2 := v.1.1 (24 + 4 * ma 2 (36 + 7 * c + 1) + 2)
  have b3 := v.1.1 (24 + 4 * ma 2 (36 + 7 * c + 1) + 3)
  have fin : ∀ y : Int, -100000000 ≤ y ∧ y ≤ 100000000 → cm_X9_heldX_105 N [some (.ref a), some (.int (iI c)), some (.int (iI x)), some (.int (iI (36 + 7 * c))), some (.int (iI y))] [] (mH h a mf ma) = some (iI (sHeld y 0 (16 * (mf 3 - ma 2 (36 + 7 * c)))), mH h a mf ma) := by
    intro y hy
    rw [eq_X9_heldX_105, m_g3, Option.bind_some, m_r6, Option.bind_some, m_l6 (by omega) (by omega), Option.bind_some, iI_sub, iI_mul, c_held (by omega) (by omega) (by omega), Option.bind_some]
    rfl
  rw [en_X9_heldX, eq_X9_heldX_0, c_cellAt, Option.bind_some]
  dsimp only
  rw [m_r6, Option.bind_some, iI_add, m_l6 (by omega) (by omega), Option.bind_some]
  unfold sHX
  by_cases q : ma 2 (36 + 7 * c + 1) = -1
  · rw [if_pos (by rw [q]), if_pos q, fin x hx]
  · rw [if_neg (by rw [iI_eq ⟨by omega, by omega⟩ ⟨by omega, by omega⟩]; exact q), if_neg q, Option.bind_some, m_l6 (by omega) (by omega), Option.bind_some, Option.bind_some, iI_mul, iI_add, iI_add, m_l6 (by omega) (by omega), Option.bind_some, Option.bind_some, m_l6 (by omega) (by omega), Option.bind_some, iI_sub, iI_add, eq_X9_heldX_59, m_r6, Option.bind_some, iI_add, m_l6 (by omega) (by omega), Option.bind_some, Option.bind_some, m_l6 (by omega) (by omega), Option.bind_some, Option.bind_some, m_l6 (by omega) (by omega), Option.bind_some, eq_X9_heldX_99, eq_X9_heldX_99, iI_mul, iI_mul]
    unfold sHX0
    by_cases q2 : ma 2 (24 + 4 * ma 2 (36 + 7 * c + 1) + 2) ≤ ma 2 (24 + 4 * ma 2 (36 + 7 * c + 1) + 3) - ma 2 (36 + 7 * c) + 1
    · rw [if_pos ((iI_le ⟨by omega, by omega⟩ ⟨by omega, by omega⟩).mpr q2), if_pos q2, c_held (by omega) (by omega) (by omega), Option.bind_some]
      dsimp only
      rw [fin _ (by repeat' split
                    all_goals omega)]
      rfl
    · rw [if_neg (fun z => q2 ((iI_le ⟨by omega, by omega⟩ ⟨by omega, by omega⟩).mp z)), if_neg q2, c_held (by omega) (by omega) (by omega), Option.bind_some]
      dsimp only
      rw [fin _ (by repeat' split
                    all_goals omega)]
      rfl
theorem c_heldY {c y : Int} (v : vOk (ma 2)) (sz : mSz mf) (h0 : 0 ≤ c) (h1 : c < ma 2 2) (hy : -100000000 ≤ y ∧ y ≤ 100000000) : fm_X9_heldY N [.ref a, .int (iI c), .int (iI y)] (mH h a mf ma) = some (iI (sHY (mf 2) (ma 2) c y), mH h a mf ma) := by
  have g1 := v.1.2.2.1
  have g2 := v.1.2.2.2.1
  have f := v.2.2.1 c h0 h1
  have s1 := sz.1
  have b0 := v.1.1 (24 + 4 * ma 2 (36 + 7 * c + 1))
  have b1 := v.1.1 (24 + 4 * ma 2 (36 + 7 * c + 1) + 1)
  have fin : ∀ z : Int, -100000000 ≤ z ∧ z ≤ 100000000 → cm_X9_heldY_64 N [some (.ref a), some (.int (iI c)), some (.int (iI y)), some (.int (iI (36 + 7 * c))), some (.int (iI z))] [] (mH h a mf ma) = some (iI (sHeld z 0 (16 * (mf 2 - 1))), mH h a mf ma) := by
    intro z hz
    rw [eq_X9_heldY_64, m_g2, Option.bind_some, iI_sub, iI_mul, c_held (by omega) (by omega) (by omega), Option.bind_some]
    rfl
  rw [en_X9_heldY, eq_X9_heldY_0, c_cellAt, Option.bind_some]
  dsimp only
  rw [m_r6, Option.bind_some, iI_add, m_l6 (by omega) (by omega), Option.bind_some]
  unfold sHY
  by_cases q : ma 2 (36 + 7 * c + 1) = -1
  · rw [if_pos (by rw [q]), if_pos q, fin y hy]
  · rw [if_neg (by rw [iI_eq ⟨by omega, by omega⟩ ⟨by omega, by omega⟩]; exact q), if_neg q, Option.bind_some, m_l6 (by omega) (by omega), Option.bind_some, Option.bind_some, iI_mul, iI_add, m_l6 (by omega) (by omega), Option.bind_some, Option.bind_some, iI_add, m_l6 (by omega) (by omega), Option.bind_some, iI_mul, iI_mul, c_held (by omega) (by omega) (by omega), Option.bind_some]
    dsimp only
    rw [eq_X9_heldY_62, fin _ (by repeat' split
                                  all_goals omega)]
    rfl
theorem c_down {x y : Int} (hx : -100000000 ≤ x ∧ x ≤ 100000000) (hy : 0 < y ∧ y ≤ 100000000) : fm_X9_down N [.int (iI x), .int (iI y)] h = some (iI (x / y), h) := by
  rw [en_X9_down, eq_X9_down_0, if_neg (c := iI y = iI 0) (by rw [iI_eq ⟨by omega, by omega⟩ ⟨by omega, by omega⟩]; omega), if_neg (c := iI y = iI 0) (by rw [iI_eq ⟨by omega, by omega⟩ ⟨by omega, by omega⟩]; omega), eq_X9_down_18, eq_X9_down_18]
  by_cases q : x < 0
  · rw [if_pos ((iI_lt ⟨by omega, by omega⟩ ⟨by omega, by omega⟩).mpr q), iI_sub, iI_sub, iI_dv (by omega) (by omega), iI_neg, down_neg hy.1]
  · rw [if_neg (fun z => q ((iI_lt ⟨by omega, by omega⟩ ⟨by omega, by omega⟩).mp z)), iI_dv (by omega) (by omega)]
/-- the pin of a cell in a net; none -/
def sPO (r : Int → Int) (n c : Int) : Int := aL (fun k => decide (sWho r n k = c)) (r (176 + 14 * n + 1)).toNat
theorem c_pinOf {n c : Int} (hN : 5000 ≤ N) (v : vOk (ma 2)) (h0 : 0 ≤ n) (h1 : n < ma 2 3) (hc : 0 ≤ c ∧ c < 20) : fm_X9_pinOf N [.ref a, .int (iI n), .int (iI c)] (mH h a mf ma) = some (iI (sPO (ma 2) n c), mH h a mf ma) := by
  obtain ⟨k1, k2⟩ := v.2.1 n h0 h1
  have g3 := v.1.2.2.2.2.1
  have cm := c_pinMany (N := N) (h := h) (a := a) (mf := mf) (ma := ma) (n := n) h0 (by omega)
  rw [en_X9_pinOf, eq_X9_pinOf_0]
  refine fix_up (fun i => [some (.ref a), some (.int (iI n)), some (.int (iI c)), some (.int (iI (aL (fun k => decide (sWho (ma 2) n k = c)) i))), some (.int (iI i))]) (fun _ => mH h a mf ma) (ma 2 (176 + 14 * n + 1)).toNat ?_ ?_ N 0 (by omega) (by omega)
  · intro K
    rw [eq_X9_pinOf_5, if_pos m_isc, cm, Option.bind_some]
    dsimp only
    rw [if_pos ((iI_le ⟨by omega, by omega⟩ ⟨by omega, by omega⟩).mpr (by omega))]
    rfl
  · intro K i hi
    have ei : ((i + 1 : Nat) : Int) = (i : Int) + 1 := by omega
    have cp := c_pinCell (N := N) (h := h) (a := a) (mf := mf) (ma := ma) (n := n) (k := i) v.1.1 h0 (by omega) (by omega) (by omega)
    have bw : -1 ≤ sWho (ma 2) n i ∧ sWho (ma 2) n i ≤ 600 := v.1.1 _
    rw [eq_X9_pinOf_5, if_pos m_isc, cm, Option.bind_some]
    dsimp only
    rw [if_neg (fun q => by have := (iI_le ⟨by omega, by omega⟩ ⟨by omega, by omega⟩).mp q; omega), if_pos m_isc, cp, Option.bind_some, eq_X9_pinOf_32, eq_X9_pinOf_32, aL, iI_add, ei]
    dsimp only
    by_cases q : sWho (ma 2) n i = c
    · rw [if_pos (show sWho (ma 2) n i < 200 by omega), if_neg (fun z => z (by rw [q])), if_pos (decide_eq_true q)]
    · rw [if_pos, if_neg (by simpa using q)]
      rw [iI_eq ⟨by split <;> omega, by split <;> omega⟩ ⟨by omega, by omega⟩]
      split <;> omega
end M26
