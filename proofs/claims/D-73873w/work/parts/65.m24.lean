/-! ===== the model: bins ===== -/
theorem aS_0 (f : Nat → Int) : aS f 0 = 0 := rfl
/-- columns of bins; bins -/
def sCols (sites : Int) : Int := (sites + 7) / 8
def sBins (rows sites : Int) : Int := sCols sites * ((rows + 1) / 2)
theorem sCols_b {s : Int} (h : 8 ≤ s ∧ s ≤ 32) : 1 ≤ sCols s ∧ sCols s ≤ 4 := by
  unfold sCols
  omega
theorem sBins_b {rows s : Int} (h0 : 1 ≤ rows ∧ rows ≤ 8) (h : 8 ≤ s ∧ s ≤ 32) : 1 ≤ sBins rows s ∧ sBins rows s ≤ 16 := by
  have h1 := sCols_b h
  unfold sBins
  have h2 : 1 ≤ (rows + 1) / 2 ∧ (rows + 1) / 2 ≤ 4 := by omega
  generalize (rows + 1) / 2 = y at h2
  generalize sCols s = x at h1
  have e : x = 1 ∨ x = 2 ∨ x = 3 ∨ x = 4 := by omega
  rcases e with e | e | e | e <;> subst e <;> omega
/-- a site that can be had in a bin -/
def sSup1 (rows sites : Int) (r : Int → Int) (R S : Int) : Int := if ((vIn R 0 (rows - 1) && vIn S 0 (sites - 1)) && (!sBar r R S && decide (sCel r R S (-1) true = -1))) = true then 256 else 0
def sSup (rows sites : Int) (r : Int → Int) (b : Int) : Int := aS (fun i => aS (fun j => sSup1 rows sites r (b / sCols sites * 2 + i) (b % sCols sites * 8 + j)) 8) 2
def sCom (a na b nb : Int) : Int := if (if b + nb ≤ a + na then b + nb else a + na) ≤ (if a ≤ b then b else a) then 0 else (if b + nb ≤ a + na then b + nb else a + na) - (if a ≤ b then b else a)
def sNeed1 (sites : Int) (r : Int → Int) (b : Int) (c : Nat) : Int := if sFix r c = true then 0 else sCom (r (36 + 7 * c + 3)) (16 * r (36 + 7 * c)) (128 * (b % sCols sites)) 128 * sCom (r (36 + 7 * c + 4)) 16 (32 * (b / sCols sites)) 32
def sNeed (sites : Int) (r : Int → Int) (b : Int) : Int := aS (sNeed1 sites r b) (r 2).toNat
theorem sCom_b {x n y m : Int} (hn : 0 ≤ n) (hm : 0 ≤ m) : 0 ≤ sCom x n y m ∧ sCom x n y m ≤ n ∧ sCom x n y m ≤ m := by
  unfold sCom
  by_cases q1 : x ≤ y <;> by_cases q2 : y + m ≤ x + n <;> simp only [q1, q2, ↓reduceIte] <;> split <;> omega
section M24
variable {N : Nat} {h : ka_H} {a : Nat} {mf : Nat → Int} {ma : Nat → Int → Int}
theorem c_columns (sz : mSz mf) : fm_X9_columns N [.ref a] (mH h a mf ma) = some (iI (sCols (mf 3)), mH h a mf ma) := by
  have s2 := sz.2
  rw [en_X9_columns, eq_X9_columns_0, m_g3, Option.bind_some, if_neg (by decide), iI_add, iI_div ⟨by omega, by omega⟩ ⟨by decide, by decide⟩ (by omega), tdiv_nn (by omega)]
  rfl
theorem c_bins (sz : mSz mf) : fm_X9_bins N [.ref a] (mH h a mf ma) = some (iI (sBins (mf 2) (mf 3)), mH h a mf ma) := by
  have s1 := sz.1
  rw [en_X9_bins, eq_X9_bins_0, if_pos m_isc, c_columns sz, Option.bind_some]
  dsimp only
  rw [m_g2, Option.bind_some, if_neg (by decide), iI_add, iI_div ⟨by omega, by omega⟩ ⟨by decide, by decide⟩ (by omega), tdiv_nn (by omega), iI_mul]
  rfl
theorem iI_rm {x k : Int} (h0 : 0 ≤ x ∧ x < 2147483648) (h1 : 0 < k ∧ k < 2147483648) : iI x - iI x / iI k * iI k = iI (x % k) := by rw [iI_rem ⟨by omega, by omega⟩ ⟨by omega, by omega⟩ h1.1, tmod_nn h0.1]
theorem iI_dv {x k : Int} (h0 : 0 ≤ x ∧ x < 2147483648) (h1 : 0 < k ∧ k < 2147483648) : iI x / iI k = iI (x / k) := by rw [iI_div ⟨by omega, by omega⟩ ⟨by omega, by omega⟩ h1.1, tdiv_nn h0.1]
theorem c_sup36 {b n R : Int} (K11 : ka_K (Int32 × ka_H)) (hN : 5000 ≤ N) (ok : rOk (ma 2)) (sz : mSz mf) (hb : 0 ≤ b ∧ b ≤ 16) (hR : -100 ≤ R ∧ R ≤ 100) :
    ki_fix (cm_X9_supply_36 N K11) N [some (.ref a), some (.int (iI b)), some (.int (iI n)), some (.int (iI R)), some (.int (iI (b % sCols (mf 3) * 8)))] [] (mH h a mf ma) = K11 [some (.ref a), some (.int (iI b)), some (.int (iI (n + aS (fun j => sSup1 (mf 2) (mf 3) (ma 2) R (b % sCols (mf 3) * 8 + j)) 8))), some (.int (iI (R + 1)))] [] (mH h a mf ma) := by
  have s2 := sCols_b sz.2
  have hm0 : 0 ≤ b % sCols (mf 3) := Int.emod_nonneg _ (by omega)
  have hm1 : b % sCols (mf 3) < sCols (mf 3) := Int.emod_lt_of_pos _ (by omega)
  have cc := c_columns (N := N) (h := h) (a := a) (mf := mf) (ma := ma) sz
  have key := fix_up (B := cm_X9_supply_36 N K11) (R := K11 [some (.ref a), some (.int (iI b)), some (.int (iI (n + aS (fun j => sSup1 (mf 2) (mf 3) (ma 2) R (b % sCols (mf 3) * 8 + j)) 8))), some (.int (iI (R + 1)))] [] (mH h a mf ma)) (fun i => [some (.ref a), some (.int (iI b)), some (.int (iI (n + aS (fun j => sSup1 (mf 2) (mf 3) (ma 2) R (b % sCols (mf 3) * 8 + j)) i))), some (.int (iI R)), some (.int (iI (b % sCols (mf 3) * 8 + i)))]) (fun _ => mH h a mf ma) 8 ?_ ?_ N 0 (by omega) (by omega)
  · simp only [Int.natCast_zero, Int.add_zero, aS_0] at key
    exact key
  · intro K
    rw [eq_X9_supply_36, if_pos m_isc, cc, Option.bind_some]
    dsimp only
    rw [if_neg (by rw [iI_eq ⟨by omega, by omega⟩ ⟨by omega, by omega⟩]; omega), iI_rm (by omega) (by omega), iI_mul, iI_add, if_pos ((iI_le ⟨by omega, by omega⟩ ⟨by omega, by omega⟩).mpr (by omega)), iI_add]
  · intro K i hi
    have ei : b % sCols (mf 3) * 8 + ((i + 1 : Nat) : Int) = b % sCols (mf 3) * 8 + (i : Int) + 1 := by omega
    generalize hS : b % sCols (mf 3) * 8 + (i : Int) = S at ei
    have c1 := c_isSite (N := N) (h := h) (a := a) (mf := mf) (ma := ma) (R := R) (S := S) sz.1 sz.2 (by omega) (by omega)
    have c2 := c_isBarred (N := N) (h := h) (a := a) (mf := mf) (ma := ma) (R := R) (S := S) hN ok.1 ok.2.1 (by omega) (by omega)
    have c3 := c_cellThere (N := N) (h := h) (a := a) (mf := mf) (ma := ma) (R := R) (S := S) (but := -1) (fx := true) hN ok.1 ok.2.2.2.1 (by omega) (by omega) (by omega)
    have b3 := sCel_b (ma 2) R S (-1) true ok.2.2.2.1.2
    rw [show (if true = true then iI 1 else iI 0) = iI 1 from rfl] at c3
    rw [eq_X9_supply_36, if_pos m_isc, cc, Option.bind_some]
    dsimp only
    rw [if_neg (by rw [iI_eq ⟨by omega, by omega⟩ ⟨by omega, by omega⟩]; omega), iI_rm (by omega) (by omega), iI_mul, iI_add, if_neg (fun q => by have := (iI_le ⟨by omega, by omega⟩ ⟨by omega, by omega⟩).mp q; omega), ei, aS, hS, if_pos m_isc, c1, Option.bind_some]
    dsimp only
    simp (disch := omega) only [m_isc, c2, c3, Option.bind_some, iI_add, iI_eqD, iI_zb, eq_X9_supply_93, eq_X9_supply_94, ↓reduceIte]
    unfold sSup1
    by_cases q1 : (vIn R 0 (mf 2 - 1) && vIn S 0 (mf 3 - 1)) = true <;> by_cases q2 : sBar (ma 2) R S = true <;> by_cases q3 : sCel (ma 2) R S (-1) true = -1 <;> simp [q1, q2, q3, Int.add_assoc]
theorem c_supply {b : Int} (hN : 5000 ≤ N) (ok : rOk (ma 2)) (sz : mSz mf) (hb : 0 ≤ b ∧ b ≤ 16) : fm_X9_supply N [.ref a, .int (iI b)] (mH h a mf ma) = some (iI (sSup (mf 2) (mf 3) (ma 2) b), mH h a mf ma) := by
  have s2 := sCols_b sz.2
  have hd0 : 0 ≤ b / sCols (mf 3) := Int.ediv_nonneg hb.1 (by omega)
  have hd1 : b / sCols (mf 3) ≤ b := Int.ediv_le_self _ hb.1
  have cc := c_columns (N := N) (h := h) (a := a) (mf := mf) (ma := ma) sz
  rw [en_X9_supply, eq_X9_supply_0, if_pos m_isc, cc, Option.bind_some]
  dsimp only
  rw [if_neg (by rw [iI_eq ⟨by omega, by omega⟩ ⟨by omega, by omega⟩]; omega), iI_dv (by omega) (by omega), iI_mul]
  have key := fix_up (B := cm_X9_supply_11 N) (R := some (iI (sSup (mf 2) (mf 3) (ma 2) b), mH h a mf ma)) (fun i => [some (.ref a), some (.int (iI b)), some (.int (iI (aS (fun i => aS (fun j => sSup1 (mf 2) (mf 3) (ma 2) (b / sCols (mf 3) * 2 + i) (b % sCols (mf 3) * 8 + j)) 8) i))), some (.int (iI (b / sCols (mf 3) * 2 + i)))]) (fun _ => mH h a mf ma) 2 ?_ ?_ N 0 (by omega) (by omega)
  · simp only [Int.natCast_zero, Int.add_zero, aS_0] at key
    exact key
  · intro K
    rw [eq_X9_supply_11, if_pos m_isc, cc, Option.bind_some]
    dsimp only
    rw [if_neg (by rw [iI_eq ⟨by omega, by omega⟩ ⟨by omega, by omega⟩]; omega), iI_dv (by omega) (by omega), iI_mul, iI_add, if_pos ((iI_le ⟨by omega, by omega⟩ ⟨by omega, by omega⟩).mpr (by omega))]
    rfl
  · intro K i hi
    have ei : b / sCols (mf 3) * 2 + ((i + 1 : Nat) : Int) = b / sCols (mf 3) * 2 + (i : Int) + 1 := by omega
    rw [eq_X9_supply_11, if_pos m_isc, cc, Option.bind_some]
    dsimp only
    rw [if_neg (by rw [iI_eq ⟨by omega, by omega⟩ ⟨by omega, by omega⟩]; omega), iI_dv (by omega) (by omega), iI_mul, iI_add, if_neg (fun q => by have := (iI_le ⟨by omega, by omega⟩ ⟨by omega, by omega⟩).mp q; omega), if_pos m_isc, cc, Option.bind_some]
    dsimp only
    rw [if_neg (by rw [iI_eq ⟨by omega, by omega⟩ ⟨by omega, by omega⟩]; omega), iI_rm (by omega) (by omega), iI_mul, c_sup36 K hN ok sz hb (by omega), ei]
    rfl
/-- the supplies laid -/
theorem c_laySupply (hN : 5000 ≤ N) (ok : rOk (ma 2)) (sz : mSz mf) : fm_X9_laySupply N [.ref a] (mH h a mf ma) = some (mH h a mf (mA ma 24 (rCp (sSup (mf 2) (mf 3) (ma 2)) (ma 24) 0 0 (sBins (mf 2) (mf 3))))) := by
  have s2 := sBins_b sz.1 sz.2
  rw [en_X9_laySupply, eq_X9_laySupply_0]
  obtain ⟨e, he⟩ : ∃ e : Nat, sBins (mf 2) (mf 3) = e := ⟨(sBins (mf 2) (mf 3)).toNat, by omega⟩
  have key := fix_up (B := cm_X9_laySupply_2 N) (R := some (mH h a mf (mA ma 24 (rCp (sSup (mf 2) (mf 3) (ma 2)) (ma 24) 0 0 (sBins (mf 2) (mf 3)))))) (fun i => [some (.ref a), some (.int (iI i))]) (fun i => mH h a mf (mA ma 24 (rCp (sSup (mf 2) (mf 3) (ma 2)) (ma 24) 0 0 i))) e ?_ ?_ N 0 (by omega) (by omega)
  · simp only [Int.natCast_zero, rCp_0, mA_self] at key
    exact key
  · intro K
    rw [eq_X9_laySupply_2, if_pos m_isc, c_bins sz, Option.bind_some]
    dsimp only
    rw [if_pos ((iI_le ⟨by omega, by omega⟩ ⟨by omega, by omega⟩).mpr (by omega)), he]
  · intro K i hi
    have ei : ((i + 1 : Nat) : Int) = (i : Int) + 1 := by omega
    have cs := c_supply (N := N) (h := h) (a := a) (mf := mf) (ma := mA ma 24 (rCp (sSup (mf 2) (mf 3) (ma 2)) (ma 24) 0 0 i)) (b := i) hN (by rw [mA_n (by decide)]; exact ok) sz (by omega)
    have es := rCp_s (sSup (mf 2) (mf 3) (ma 2)) (ma 24) 0 0 i (by omega)
    rw [Int.zero_add] at es
    rw [eq_X9_laySupply_2, if_pos m_isc, c_bins sz, Option.bind_some]
    dsimp only
    rw [if_neg (fun q => by have := (iI_le ⟨by omega, by omega⟩ ⟨by omega, by omega⟩).mp q; omega), m_r36, Option.bind_some, if_pos m_isc, cs, Option.bind_some]
    dsimp only
    rw [m_s36 (by omega) (by omega), Option.bind_some, mU_mA, mA_2, mA_mA, mA_n (by decide), es, iI_add, ei]
theorem c_common {x n y m : Int} (h1 : -100000 ≤ x ∧ x ≤ 100000) (h2 : -100000 ≤ n ∧ n ≤ 100000) (h3 : -100000 ≤ y ∧ y ≤ 100000) (h4 : -100000 ≤ m ∧ m ≤ 100000) : fm_X9_common N [.int (iI x), .int (iI n), .int (iI y), .int (iI m)] h = some (iI (sCom x n y m), h) := by
  rw [en_X9_common, eq_X9_common_0]
  simp (disch := omega) only [iI_leD, eq_X9_common_10, iI_add]
  unfold sCom
  by_cases q1 : x ≤ y <;> by_cases q2 : y + m ≤ x + n <;> simp (disch := omega) only [q1, q2, ↓reduceIte, eq_X9_common_30, iI_leD, iI_sub, eq_X9_common_48] <;> split <;> rfl
theorem c_needOf {b : Int} (hN : 5000 ≤ N) (ok : rOk (ma 2)) (sz : mSz mf) (hb : 0 ≤ b ∧ b ≤ 16) : fm_X9_needOf N [.ref a, .int (iI b)] (mH h a mf ma) = some (iI (sNeed (mf 3) (ma 2) b), mH h a mf ma) := by
  have g2 := ok.2.2.2.1
  have s2 := sCols_b sz.2
  have hd0 : 0 ≤ b / sCols (mf 3) := Int.ediv_nonneg hb.1 (by omega)
  have hd1 : b / sCols (mf 3) ≤ b := Int.ediv_le_self _ hb.1
  have hm0 : 0 ≤ b % sCols (mf 3) := Int.emod_nonneg _ (by omega)
  have hm1 : b % sCols (mf 3) < sCols (mf 3) := Int.emod_lt_of_pos _ (by omega)
  have cc := c_columns (N := N) (h := h) (a := a) (mf := mf) (ma := ma) sz
  rw [en_X9_needOf, eq_X9_needOf_0]
  refine fix_up (fun i => [some (.ref a), some (.int (iI b)), some (.int (iI (aS (sNeed1 (mf 3) (ma 2) b) i))), some (.int (iI i))]) (fun _ => mH h a mf ma) (ma 2 2).toNat ?_ ?_ N 0 (by omega) (by omega)
  · intro K
    rw [eq_X9_needOf_4, m_r6, Option.bind_some, m_l6 (by omega) (by omega), Option.bind_some, if_pos ((iI_le ⟨by omega, by omega⟩ ⟨by omega, by omega⟩).mpr (by omega))]
    rfl
  · intro K i hi
    have ei : ((i + 1 : Nat) : Int) = (i : Int) + 1 := by omega
    have b0 := ok.1 (36 + 7 * i)
    have b3 := ok.1 (36 + 7 * i + 3)
    have b4 := ok.1 (36 + 7 * i + 4)
    rw [eq_X9_needOf_4, m_r6, Option.bind_some, m_l6 (by omega) (by omega), Option.bind_some, if_neg (fun q => by have := (iI_le ⟨by omega, by omega⟩ ⟨by omega, by omega⟩).mp q; omega), c_cellAt, Option.bind_some]
    dsimp only
    rw [if_pos m_isc, c_isFixed (by omega) ok.1, Option.bind_some, aS, sNeed1]
    dsimp only
    by_cases q : sFix (ma 2) i = true
    · rw [if_neg (by rw [q]; exact tb1), if_pos q, eq_X9_needOf_94, iI_add, iI_add, ei]
    · rw [if_pos (by simp [q]), if_neg q, m_r6, Option.bind_some, iI_add, m_l6 (by omega) (by omega), Option.bind_some, Option.bind_some, m_l6 (by omega) (by omega), Option.bind_some, if_pos m_isc, cc, Option.bind_some]
      dsimp only
      rw [if_neg (by rw [iI_eq ⟨by omega, by omega⟩ ⟨by omega, by omega⟩]; omega), iI_rm (by omega) (by omega), iI_mul, iI_mul, c_common (by omega) (by omega) (by omega) (by omega), Option.bind_some]
      dsimp only
      rw [m_r6, Option.bind_some, iI_add, m_l6 (by omega) (by omega), Option.bind_some, eq_X9_needOf_77, if_pos m_isc, cc, Option.bind_some]
      dsimp only
      rw [if_neg (by rw [iI_eq ⟨by omega, by omega⟩ ⟨by omega, by omega⟩]; omega), iI_dv (by omega) (by omega), iI_mul, c_common (by omega) (by omega) (by omega) (by omega), Option.bind_some]
      dsimp only
      rw [eq_X9_needOf_94, iI_mul, iI_add, iI_add, ei]
end M24
