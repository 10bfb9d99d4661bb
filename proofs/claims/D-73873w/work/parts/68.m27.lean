/-! ===== the model: a cell's start ===== -/
def sSt1 (r : Int → Int) (c n : Int) (g : Nat → Int) (k : Nat) : Int := if (k : Int) = sPO r n c then 0 else r (176 + 14 * n) * g k
def sStN (r : Int → Int) (c n : Int) (g : Nat → Int) : Int := if sPO r n c = -1 then 0 else aS (sSt1 r c n g) (r (176 + 14 * n + 1)).toNat
def sGX (r : Int → Int) (c n : Int) (k : Nat) : Int := sPX r false n k - 16 * sWhr r n (sPO r n c) - 8
def sGY (r : Int → Int) (n : Int) (k : Nat) : Int := sPY r false n k - 8
def sGW (_ : Nat) : Int := 1
def sStX (r : Int → Int) (c : Int) : Int := aS (fun n => sStN r c n (sGX r c n)) (r 3).toNat
def sStY (r : Int → Int) (c : Int) : Int := aS (fun n => sStN r c n (sGY r n)) (r 3).toNat
def sStW (r : Int → Int) (c : Int) : Int := aS (fun n => sStN r c n sGW) (r 3).toNat
def rStC (rows sites : Int) (r : Int → Int) (c : Int) : Int → Int := if sStW r c ≤ 0 then r else rU (rU r (36 + 7 * c + 3) (sHX sites r c (sStX r c / sStW r c))) (36 + 7 * c + 4) (sHY rows r c (sStY r c / sStW r c))
theorem mul_ab {x y : Int} (h1 : 0 ≤ x) (h2 : x ≤ 9) (h3 : -100000 ≤ y) (h4 : y ≤ 100000) : -900000 ≤ x * y ∧ x * y ≤ 900000 := by
  have e : x = 0 ∨ x = 1 ∨ x = 2 ∨ x = 3 ∨ x = 4 ∨ x = 5 ∨ x = 6 ∨ x = 7 ∨ x = 8 ∨ x = 9 := by omega
  rcases e with e | e | e | e | e | e | e | e | e | e <;> subst e <;> omega
theorem sStN_b {r : Int → Int} {c n : Int} {g : Nat → Int} (v : vOk r) (h0 : 0 ≤ n) (h1 : n < r 3) (hg : ∀ k, -100000 ≤ g k ∧ g k ≤ 100000) : -6000000 ≤ sStN r c n g ∧ sStN r c n g ≤ 6000000 := by
  unfold sStN
  have w := v.2.2.2 n h0 h1
  have k1 := (v.2.1 n h0 h1).1
  split
  · omega
  · have := aS_b (f := sSt1 r c n g) (lo := -900000) (hi := 900000) (n := (r (176 + 14 * n + 1)).toNat) (fun k hk => by
      unfold sSt1
      have := hg k
      split
      · omega
      · exact mul_ab (by omega) (by omega) this.1 this.2)
    omega
theorem sGX_b {r : Int → Int} (hB : rB r) (c n : Int) (k : Nat) : -100000 ≤ sGX r c n k ∧ sGX r c n k ≤ 100000 := by
  have h1 := sPin_b hB false false n k
  have h2 := hB (176 + 14 * n + 2 + 2 * sPO r n c + 1)
  unfold sGX sWhr
  have e : sPin r false false n k = sPX r false n k := rfl
  omega
theorem sGY_b {r : Int → Int} (hB : rB r) (n : Int) (k : Nat) : -100000 ≤ sGY r n k ∧ sGY r n k ≤ 100000 := by
  have h1 := sPin_b hB false true n k
  unfold sGY
  have e : sPin r false true n k = sPY r false n k := rfl
  omega
theorem sStA_b {r : Int → Int} {c : Int} {g : Int → Nat → Int} (v : vOk r) (hg : ∀ n k, -100000 ≤ g n k ∧ g n k ≤ 100000) : -96000000 ≤ aS (fun n => sStN r c n (g n)) (r 3).toNat ∧ aS (fun n => sStN r c n (g n)) (r 3).toNat ≤ 96000000 := by
  have g3 := v.1.2.2.2.2.1
  have := aS_b (f := fun n : Nat => sStN r c n (g n)) (lo := -6000000) (hi := 6000000) (n := (r 3).toNat) (fun k hk => sStN_b v (by omega) (by omega) (hg k))
  omega
section M27
variable {N : Nat} {h : ka_H} {a : Nat} {mf : Nat → Int} {ma : Nat → Int → Int}
theorem c_start33 {c n x y w : Int} (K10 : ka_K ka_H) (hN : 5000 ≤ N) (v : vOk (ma 2)) (h0 : 0 ≤ n) (h1 : n < ma 2 3) (hc : 0 ≤ c ∧ c < 20) :
    ki_fix (cm_X9_startCell_33 N K10) N [some (.ref a), some (.int (iI c)), some (.int (iI x)), some (.int (iI y)), some (.int (iI w)), some (.int (iI n)), some (.int (iI (sPO (ma 2) n c))), some (.int (iI 0))] [] (mH h a mf ma) = K10 [some (.ref a), some (.int (iI c)), some (.int (iI (x + sStN (ma 2) c n (sGX (ma 2) c n)))), some (.int (iI (y + sStN (ma 2) c n (sGY (ma 2) n)))), some (.int (iI (w + sStN (ma 2) c n sGW))), some (.int (iI (n + 1)))] [] (mH h a mf ma) := by
  obtain ⟨k1, k2⟩ := v.2.1 n h0 h1
  have g2 := v.1.2.2.2.1
  have g3 := v.1.2.2.2.2.1
  have cm := c_pinMany (N := N) (h := h) (a := a) (mf := mf) (ma := ma) (n := n) h0 (by omega)
  have bp : -1 ≤ sPO (ma 2) n c ∧ sPO (ma 2) n c < 6 := by
    have := aL_range (p := fun k => decide (sWho (ma 2) n k = c)) (n := (ma 2 (176 + 14 * n + 1)).toNat)
    unfold sPO
    omega
  unfold sStN
  by_cases q : sPO (ma 2) n c = -1
  · rw [if_pos q, if_pos q, if_pos q, q]
    obtain ⟨m, rfl⟩ : ∃ m, N = m + 1 := ⟨N - 1, by omega⟩
    conv => lhs; rw [ki_fix_s]
    rw [eq_X9_startCell_33, if_pos m_isc, cm, Option.bind_some]
    dsimp only
    rw [if_pos rfl, ite_self, eq_X9_startCell_142, iI_add, Int.add_zero, Int.add_zero, Int.add_zero]
  · rw [if_neg q, if_neg q, if_neg q]
    have key := fix_up (B := cm_X9_startCell_33 N K10) (R := K10 [some (.ref a), some (.int (iI c)), some (.int (iI (x + aS (sSt1 (ma 2) c n (sGX (ma 2) c n)) (ma 2 (176 + 14 * n + 1)).toNat))), some (.int (iI (y + aS (sSt1 (ma 2) c n (sGY (ma 2) n)) (ma 2 (176 + 14 * n + 1)).toNat))), some (.int (iI (w + aS (sSt1 (ma 2) c n sGW) (ma 2 (176 + 14 * n + 1)).toNat))), some (.int (iI (n + 1)))] [] (mH h a mf ma)) (fun i => [some (.ref a), some (.int (iI c)), some (.int (iI (x + aS (sSt1 (ma 2) c n (sGX (ma 2) c n)) i))), some (.int (iI (y + aS (sSt1 (ma 2) c n (sGY (ma 2) n)) i))), some (.int (iI (w + aS (sSt1 (ma 2) c n sGW) i))), some (.int (iI n)), some (.int (iI (sPO (ma 2) n c))), some (.int (iI i))]) (fun _ => mH h a mf ma) (ma 2 (176 + 14 * n + 1)).toNat ?_ ?_ N 0 (by omega) (by omega)
    · simp only [Int.natCast_zero, Int.add_zero, aS] at key
      exact key
    · intro K
      rw [eq_X9_startCell_33, if_pos m_isc, cm, Option.bind_some]
      dsimp only
      rw [if_pos ((iI_le ⟨by omega, by omega⟩ ⟨by omega, by omega⟩).mpr (by omega)), eq_X9_startCell_142, iI_add]
    · intro K i hi
      have ei : ((i + 1 : Nat) : Int) = (i : Int) + 1 := by omega
      have cx := c_pinX (N := N) (h := h) (a := a) (mf := mf) (ma := ma) (n := n) (k := i) (sp := false) v.1.1 h0 (by omega) (by omega) (by omega) (fun z => by have := k2 i (by omega) (by omega) z; omega)
      have cy := c_pinY (N := N) (h := h) (a := a) (mf := mf) (ma := ma) (n := n) (k := i) (sp := false) v.1.1 h0 (by omega) (by omega) (by omega) (fun z => by have := k2 i (by omega) (by omega) z; omega)
      rw [show (if false = true then iI 1 else iI 0) = iI 0 from rfl] at cx cy
      rw [eq_X9_startCell_33, if_pos m_isc, cm, Option.bind_some]
      dsimp only
      rw [if_neg (fun q => by have := (iI_le ⟨by omega, by omega⟩ ⟨by omega, by omega⟩).mp q; omega), if_neg (by rw [iI_eq ⟨by omega, by omega⟩ ⟨by omega, by omega⟩]; exact q), aS, aS, aS, ei]
      by_cases q2 : (i : Int) = sPO (ma 2) n c
      · rw [if_pos (by rw [q2]), eq_X9_startCell_136, iI_add, sSt1, sSt1, sSt1, if_pos q2, if_pos q2, if_pos q2, Int.add_zero, Int.add_zero, Int.add_zero]
      · rw [if_neg (by rw [iI_eq ⟨by omega, by omega⟩ ⟨by omega, by omega⟩]; exact q2), m_r6, Option.bind_some, c_netAt, Option.bind_some]
        dsimp only
        rw [m_l6 (by omega) (by omega), Option.bind_some, if_pos m_isc, cx, Option.bind_some]
        dsimp only
        rw [if_pos m_isc, c_second h0 (by omega) (by omega) (by omega), Option.bind_some]
        dsimp only
        rw [m_r6, Option.bind_some, c_netAt, Option.bind_some]
        dsimp only
        rw [m_l6 (by omega) (by omega), Option.bind_some, eq_X9_startCell_106, if_pos m_isc, cy, Option.bind_some]
        dsimp only
        rw [m_r6, Option.bind_some, c_netAt, Option.bind_some]
        dsimp only
        rw [m_l6 (by omega) (by omega), Option.bind_some, eq_X9_startCell_136, sSt1, sSt1, sSt1, if_neg q2, if_neg q2, if_neg q2]
        simp only [iI_mul, iI_sub, iI_add, Int.add_assoc, sGX, sGY, sGW, Int.mul_one]
theorem c_startCell {c : Int} (hN : 5000 ≤ N) (v : vOk (ma 2)) (sz : mSz mf) (h0 : 0 ≤ c) (h1 : c < ma 2 2) : fm_X9_startCell N [.ref a, .int (iI c)] (mH h a mf ma) = some (mH h a mf (mA ma 2 (rStC (mf 2) (mf 3) (ma 2) c))) := by
  have g2 := v.1.2.2.2.1
  have g3 := v.1.2.2.2.2.1
  have s1 := sz.1
  have s2 := sz.2
  have w := v.1.2.2.2.2.2 c h0 h1
  rw [en_X9_startCell, eq_X9_startCell_0]
  have key := fix_up (B := cm_X9_startCell_10 N) (R := some (mH h a mf (mA ma 2 (rStC (mf 2) (mf 3) (ma 2) c)))) (fun i => [some (.ref a), some (.int (iI c)), some (.int (iI (aS (fun n => sStN (ma 2) c n (sGX (ma 2) c n)) i))), some (.int (iI (aS (fun n => sStN (ma 2) c n (sGY (ma 2) n)) i))), some (.int (iI (aS (fun n => sStN (ma 2) c n sGW) i))), some (.int (iI i))]) (fun _ => mH h a mf ma) (ma 2 3).toNat ?_ ?_ N 0 (by omega) (by omega)
  · exact key
  · intro K
    have x1 := sStA_b (c := c) (g := fun n => sGX (ma 2) c n) v (fun n k => sGX_b v.1.1 c n k)
    have x2 := sStA_b (c := c) (g := fun n => sGY (ma 2) n) v (fun n k => sGY_b v.1.1 n k)
    have x3 := sStA_b (c := c) (g := fun _ => sGW) v (fun n k => ⟨by unfold sGW; omega, by unfold sGW; omega⟩)
    rw [eq_X9_startCell_10, m_r6, Option.bind_some, m_l6 (by omega) (by omega), Option.bind_some, if_pos ((iI_le ⟨by omega, by omega⟩ ⟨by omega, by omega⟩).mpr (by omega))]
    unfold rStC
    change -96000000 ≤ sStX (ma 2) c ∧ sStX (ma 2) c ≤ 96000000 at x1
    change -96000000 ≤ sStY (ma 2) c ∧ sStY (ma 2) c ≤ 96000000 at x2
    change -96000000 ≤ sStW (ma 2) c ∧ sStW (ma 2) c ≤ 96000000 at x3
    rw [show aS (fun n : Nat => sStN (ma 2) c n (sGX (ma 2) c n)) (ma 2 3).toNat = sStX (ma 2) c from rfl, show aS (fun n : Nat => sStN (ma 2) c n (sGY (ma 2) n)) (ma 2 3).toNat = sStY (ma 2) c from rfl, show aS (fun n : Nat => sStN (ma 2) c n sGW) (ma 2 3).toNat = sStW (ma 2) c from rfl]
    by_cases q : sStW (ma 2) c ≤ 0
    · rw [if_pos ((iI_le ⟨by omega, by omega⟩ ⟨by omega, by omega⟩).mpr q), if_pos q, eq_X9_startCell_197, mA_self]
    · have hX := sHX_b (sites := mf 3) (r := ma 2) (c := c) (x := sStX (ma 2) c / sStW (ma 2) c) (by omega)
      have v2 := vOk_u (c := c) (k := 3) (x := sHX (mf 3) (ma 2) c (sStX (ma 2) c / sStW (ma 2) c)) v h0 (by omega) (by omega) (by omega)
      have dx1 : sStX (ma 2) c / sStW (ma 2) c ≤ 96000000 := Int.ediv_le_of_le_mul (by omega) (by
        have : (96000000 : Int) * 1 ≤ 96000000 * sStW (ma 2) c := Int.mul_le_mul_of_nonneg_left (by omega) (by omega)
        omega)
      have dx2 : -96000000 ≤ sStX (ma 2) c / sStW (ma 2) c := Int.le_ediv_of_mul_le (by omega) (by
        have : (96000000 : Int) * 1 ≤ 96000000 * sStW (ma 2) c := Int.mul_le_mul_of_nonneg_left (by omega) (by omega)
        omega)
      have dy1 : sStY (ma 2) c / sStW (ma 2) c ≤ 96000000 := Int.ediv_le_of_le_mul (by omega) (by
        have : (96000000 : Int) * 1 ≤ 96000000 * sStW (ma 2) c := Int.mul_le_mul_of_nonneg_left (by omega) (by omega)
        omega)
      have dy2 : -96000000 ≤ sStY (ma 2) c / sStW (ma 2) c := Int.le_ediv_of_mul_le (by omega) (by
        have : (96000000 : Int) * 1 ≤ 96000000 * sStW (ma 2) c := Int.mul_le_mul_of_nonneg_left (by omega) (by omega)
        omega)
      have eY : sHY (mf 2) (rU (ma 2) (36 + 7 * c + 3) (sHX (mf 3) (ma 2) c (sStX (ma 2) c / sStW (ma 2) c))) c (sStY (ma 2) c / sStW (ma 2) c) = sHY (mf 2) (ma 2) c (sStY (ma 2) c / sStW (ma 2) c) := by
        have f := v.2.2.1 c h0 h1
        have g1 := v.1.2.2.1
        unfold sHY
        rw [rU_n (show 36 + 7 * c + 1 ≠ 36 + 7 * c + 3 by omega)]
        by_cases qq : ma 2 (36 + 7 * c + 1) = -1
        · rw [if_pos qq, if_pos qq]
        · rw [if_neg qq, if_neg qq, rU_n (by omega), rU_n (by omega)]
      rw [if_neg (fun z => q ((iI_le ⟨by omega, by omega⟩ ⟨by omega, by omega⟩).mp z)), if_neg q, Option.bind_some, c_cellAt, Option.bind_some]
      dsimp only
      rw [c_down (by omega) (by omega), Option.bind_some]
      dsimp only
      rw [if_pos m_isc, c_heldX v sz h0 h1 (by omega), Option.bind_some]
      dsimp only
      rw [iI_add, m_s6 (by omega) (by omega), Option.bind_some, mU_mA, m_r6, Option.bind_some, c_cellAt, Option.bind_some]
      dsimp only
      rw [c_down (by omega) (by omega), Option.bind_some]
      dsimp only
      rw [if_pos m_isc, c_heldY (by rw [mA_2]; exact v2) sz h0 (by rw [mA_2, rU_n (by omega)]; exact h1) (by omega), Option.bind_some, mA_2, eY]
      dsimp only
      rw [iI_add, m_s6 (by omega) (by omega), Option.bind_some, mU_mA, mA_2, mA_mA, eq_X9_startCell_197]
  · intro K i hi
    have ei : ((i + 1 : Nat) : Int) = (i : Int) + 1 := by omega
    rw [eq_X9_startCell_10, m_r6, Option.bind_some, m_l6 (by omega) (by omega), Option.bind_some, if_neg (fun q => by have := (iI_le ⟨by omega, by omega⟩ ⟨by omega, by omega⟩).mp q; omega), if_pos m_isc, c_pinOf hN v (by omega) (by omega) (by omega), Option.bind_some]
    dsimp only
    rw [c_start33 K hN v (by omega) (by omega) (by omega), aS, aS, aS, ei]
end M27
