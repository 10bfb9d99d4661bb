/-! ===== the model: overflow, cost, demand, moves ===== -/
def sOver (t : Int) (sites : Int) (r u : Int → Int) (b : Int) : Int := if sNeed sites r b - u b * t / 100 ≤ 0 then 0 else sNeed sites r b - u b * t / 100
def sOvf (t : Int) (rows sites : Int) (r u : Int → Int) : Int := aS (fun b => sOver t sites r u b) (sBins rows sites).toNat
def sCost (t : Int → Int) (rows sites : Int) (r u : Int → Int) : Int := 16 * sSms (t 4) (t 0) r + t 2 * sOvf (t 1) rows sites r u
def sMeet (sites : Int) (r : Int → Int) (b : Int) (n : Int) : Bool := vIn (b % sCols sites) ((sLe r true false n).tdiv 128) ((sGr r true false n).tdiv 128) && vIn (b / sCols sites) ((sLe r true true n).tdiv 32) ((sGr r true true n).tdiv 32)
def sDem (sites : Int) (r : Int → Int) (b : Int) : Int := aS (fun n => if sMeet sites r b n = true then r (176 + 14 * n) else 0) (r 3).toNat
def sMove (tall : Int) (r : Int → Int) (c : Int) : Int := r (36 + 7 * c) * (sFar (16 * r (36 + 7 * c + 6)) (r (36 + 7 * c + 3)) + tall * sFar (16 * r (36 + 7 * c + 5)) (r (36 + 7 * c + 4)))
theorem sNeed_b {sites : Int} {r : Int → Int} {b : Int} (ok : rOk r) : 0 ≤ sNeed sites r b ∧ sNeed sites r b ≤ 81920 := by
  have g2 := ok.2.2.2.1
  have := aS_b (f := sNeed1 sites r b) (lo := 0) (hi := 4096) (n := (r 2).toNat) (fun k hk => by
    unfold sNeed1
    have hw := ok.2.2.2.2.2 k (by omega) (by omega)
    split
    · omega
    · have x1 := sCom_b (x := r (36 + 7 * k + 3)) (n := 16 * r (36 + 7 * k)) (y := 128 * (b % sCols sites)) (m := 128) (by omega) (by omega)
      have x2 := sCom_b (x := r (36 + 7 * k + 4)) (n := 16) (y := 32 * (b / sCols sites)) (m := 32) (by omega) (by omega)
      exact mul_b x1.1 x1.2.2 x2.1 x2.2.2)
  unfold sNeed
  omega
theorem sLe_b {r : Int → Int} (hB : rB r) (sp up : Bool) (n : Int) : -100000000 ≤ sLe r sp up n ∧ sLe r sp up n ≤ 100000000 := aMn_b (by omega) (fun k _ => by have := sPin_b hB sp up n k; omega)
theorem sGr_b {r : Int → Int} (hB : rB r) (sp up : Bool) (n : Int) : -100000000 ≤ sGr r sp up n ∧ sGr r sp up n ≤ 100000000 := aMx_b (by omega) (fun k _ => by have := sPin_b hB sp up n k; omega)
theorem tdiv_b {x k : Int} (hx : -100000000 ≤ x ∧ x ≤ 100000000) : -100000000 ≤ x.tdiv k ∧ x.tdiv k ≤ 100000000 := by
  have h1 : (x.tdiv k).natAbs ≤ x.natAbs := by rw [Int.natAbs_tdiv]; exact Nat.div_le_self _ _
  omega
section M25
variable {N : Nat} {h : ka_H} {a : Nat} {mf : Nat → Int} {ma : Nat → Int → Int}
theorem c_over {b : Int} (hN : 5000 ≤ N) (ok : rOk (ma 2)) (sz : mSz mf) (tm : tmOk (ma 1)) (hb : 0 ≤ b ∧ b < 16) (hu : 0 ≤ ma 24 b ∧ ma 24 b ≤ 4096) : fm_X9_over N [.ref a, .int (iI b)] (mH h a mf ma) = some (iI (sOver (ma 1 1) (mf 3) (ma 2) (ma 24) b), mH h a mf ma) := by
  have t1 := tm.2.1
  have x := mul_b hu.1 hu.2 (show 0 ≤ ma 1 1 by omega) t1.2
  have y := sNeed_b (sites := mf 3) (b := b) ok
  have z0 : 0 ≤ ma 24 b * ma 1 1 / 100 := by omega
  have z1 : ma 24 b * ma 1 1 / 100 ≤ 409600 := by omega
  rw [en_X9_over, eq_X9_over_0, if_pos m_isc, c_needOf hN ok sz (by omega), Option.bind_some]
  dsimp only
  rw [m_r36, Option.bind_some, m_l36 (by omega) (by omega), Option.bind_some, m_r5, Option.bind_some, m_l5 (by omega) (by omega), Option.bind_some, if_neg (by decide), iI_mul, iI_dv (by omega) (by omega), iI_sub, eq_X9_over_32, eq_X9_over_32]
  unfold sOver
  by_cases q : sNeed (mf 3) (ma 2) b - ma 24 b * ma 1 1 / 100 ≤ 0
  · rw [if_pos ((iI_le ⟨by omega, by omega⟩ ⟨by omega, by omega⟩).mpr q), if_pos q]
  · rw [if_neg (fun z => q ((iI_le ⟨by omega, by omega⟩ ⟨by omega, by omega⟩).mp z)), if_neg q]
theorem c_overflow (hN : 5000 ≤ N) (ok : rOk (ma 2)) (sz : mSz mf) (tm : tmOk (ma 1)) (hu : ∀ b, 0 ≤ b → b < sBins (mf 2) (mf 3) → 0 ≤ ma 24 b ∧ ma 24 b ≤ 4096) : fm_X9_overflow N [.ref a] (mH h a mf ma) = some (iI (sOvf (ma 1 1) (mf 2) (mf 3) (ma 2) (ma 24)), mH h a mf ma) := by
  have s2 := sBins_b sz.1 sz.2
  rw [en_X9_overflow, eq_X9_overflow_0]
  refine fix_up (fun i => [some (.ref a), some (.int (iI (aS (fun b => sOver (ma 1 1) (mf 3) (ma 2) (ma 24) b) i))), some (.int (iI i))]) (fun _ => mH h a mf ma) (sBins (mf 2) (mf 3)).toNat ?_ ?_ N 0 (by omega) (by omega)
  · intro K
    rw [eq_X9_overflow_4, if_pos m_isc, c_bins sz, Option.bind_some]
    dsimp only
    rw [if_pos ((iI_le ⟨by omega, by omega⟩ ⟨by omega, by omega⟩).mpr (by omega))]
    rfl
  · intro K i hi
    rw [eq_X9_overflow_4, if_pos m_isc, c_bins sz, Option.bind_some]
    dsimp only
    rw [if_neg (fun q => by have := (iI_le ⟨by omega, by omega⟩ ⟨by omega, by omega⟩).mp q; omega), if_pos m_isc, c_over hN ok sz tm (by omega) (hu i (by omega) (by omega)), Option.bind_some]
    dsimp only
    rw [iI_add, iI_add]
    rfl
theorem c_cost (hN : 5000 ≤ N) (ok : rOk (ma 2)) (nk : nOk (ma 2)) (sz : mSz mf) (tm : tmOk (ma 1)) (hu : ∀ b, 0 ≤ b → b < sBins (mf 2) (mf 3) → 0 ≤ ma 24 b ∧ ma 24 b ≤ 4096) : fm_X9_cost N [.ref a] (mH h a mf ma) = some (iI (sCost (ma 1) (mf 2) (mf 3) (ma 2) (ma 24)), mH h a mf ma) := by
  rw [en_X9_cost, eq_X9_cost_0, if_pos m_isc, c_smooths hN ok nk tm, Option.bind_some]
  dsimp only
  rw [m_r5, Option.bind_some, m_l5 (by omega) (by omega), Option.bind_some, if_pos m_isc, c_overflow hN ok sz tm hu, Option.bind_some]
  dsimp only
  rw [iI_mul, iI_mul, iI_add]
  rfl
theorem c_demand {b : Int} (hN : 5000 ≤ N) (ok : rOk (ma 2)) (nk : nOk (ma 2)) (sz : mSz mf) (hb : 0 ≤ b ∧ b < 16) : fm_X9_demand N [.ref a, .int (iI b)] (mH h a mf ma) = some (iI (sDem (mf 3) (ma 2) b), mH h a mf ma) := by
  have g3 := ok.2.2.2.2.1
  have s2 := sCols_b sz.2
  have hd0 : 0 ≤ b / sCols (mf 3) := Int.ediv_nonneg hb.1 (by omega)
  have hd1 : b / sCols (mf 3) ≤ b := Int.ediv_le_self _ hb.1
  have hm0 : 0 ≤ b % sCols (mf 3) := Int.emod_nonneg _ (by omega)
  have hm1 : b % sCols (mf 3) < sCols (mf 3) := Int.emod_lt_of_pos _ (by omega)
  have cc := c_columns (N := N) (h := h) (a := a) (mf := mf) (ma := ma) sz
  rw [en_X9_demand, eq_X9_demand_0]
  refine fix_up (fun i => [some (.ref a), some (.int (iI b)), some (.int (iI (aS (fun n => if sMeet (mf 3) (ma 2) b n = true then ma 2 (176 + 14 * n) else 0) i))), some (.int (iI i))]) (fun _ => mH h a mf ma) (ma 2 3).toNat ?_ ?_ N 0 (by omega) (by omega)
  · intro K
    rw [eq_X9_demand_4, m_r6, Option.bind_some, m_l6 (by omega) (by omega), Option.bind_some, if_pos ((iI_le ⟨by omega, by omega⟩ ⟨by omega, by omega⟩).mpr (by omega))]
    rfl
  · intro K i hi
    have ei : ((i + 1 : Nat) : Int) = (i : Int) + 1 := by omega
    have l1 := c_lo (N := N) (h := h) (a := a) (mf := mf) (ma := ma) (n := i) (sp := true) (up := false) hN ok nk (by omega) (by omega)
    have l2 := c_hi (N := N) (h := h) (a := a) (mf := mf) (ma := ma) (n := i) (sp := true) (up := false) hN ok nk (by omega) (by omega)
    have l3 := c_lo (N := N) (h := h) (a := a) (mf := mf) (ma := ma) (n := i) (sp := true) (up := true) hN ok nk (by omega) (by omega)
    have l4 := c_hi (N := N) (h := h) (a := a) (mf := mf) (ma := ma) (n := i) (sp := true) (up := true) hN ok nk (by omega) (by omega)
    rw [show (if true = true then iI 1 else iI 0) = iI 1 from rfl] at l1 l2 l3 l4
    rw [show (if false = true then iI 1 else iI 0) = iI 0 from rfl] at l1 l2
    have b1 := sLe_b ok.1 true false i
    have b2 := sGr_b ok.1 true false i
    have b3 := sLe_b ok.1 true true i
    have b4 := sGr_b ok.1 true true i
    have d1 := tdiv_b (k := 128) b1
    have d2 := tdiv_b (k := 128) b2
    have d3 := tdiv_b (k := 32) b3
    have d4 := tdiv_b (k := 32) b4
    have no : ∀ b : Bool, b = false → cm_X9_demand_90 N K [some (.ref a), some (.int (iI b.toNat)), some (.int (iI 0)), some (.int (iI 0))] [] (mH h a mf ma) = cm_X9_demand_91 N K [some (.ref a), some (.int (iI b.toNat)), some (.int (iI 0)), some (.int (iI 0))] [.int (iI 0)] (mH h a mf ma) := fun b _ => by rw [eq_X9_demand_90]
    rw [eq_X9_demand_4, m_r6, Option.bind_some, m_l6 (by omega) (by omega), Option.bind_some, if_neg (fun q => by have := (iI_le ⟨by omega, by omega⟩ ⟨by omega, by omega⟩).mp q; omega), if_pos m_isc, cc, Option.bind_some]
    dsimp only
    rw [if_neg (by rw [iI_eq ⟨by omega, by omega⟩ ⟨by omega, by omega⟩]; omega), if_pos m_isc, l1, Option.bind_some]
    dsimp only
    rw [if_neg (by decide), if_pos m_isc, l2, Option.bind_some]
    dsimp only
    rw [if_neg (by decide), iI_rm (by omega) (by omega), iI_div ⟨by omega, by omega⟩ ⟨by decide, by decide⟩ (by omega), iI_div ⟨by omega, by omega⟩ ⟨by decide, by decide⟩ (by omega), c_inI (by omega) (by omega) (by omega) (by omega) (by omega) (by omega), Option.bind_some, aS, sMeet]
    dsimp only
    by_cases q1 : vIn (b % sCols (mf 3)) ((sLe (ma 2) true false i).tdiv 128) ((sGr (ma 2) true false i).tdiv 128) = true
    · rw [if_neg (by rw [q1]; exact tb1), if_pos m_isc, cc, Option.bind_some, q1, Bool.true_and]
      dsimp only
      rw [if_neg (by rw [iI_eq ⟨by omega, by omega⟩ ⟨by omega, by omega⟩]; omega), if_pos m_isc, l3, Option.bind_some]
      dsimp only
      rw [eq_X9_demand_67, if_neg (by decide), if_pos m_isc, l4, Option.bind_some]
      dsimp only
      rw [if_neg (by decide), iI_dv (by omega) (by omega), iI_div ⟨by omega, by omega⟩ ⟨by decide, by decide⟩ (by omega), iI_div ⟨by omega, by omega⟩ ⟨by decide, by decide⟩ (by omega), c_inI (by omega) (by omega) (by omega) (by omega) (by omega) (by omega), Option.bind_some]
      dsimp only
      by_cases q2 : vIn (b / sCols (mf 3)) ((sLe (ma 2) true true i).tdiv 32) ((sGr (ma 2) true true i).tdiv 32) = true
      · rw [if_neg (by rw [q2]; exact tb1), if_pos q2, eq_X9_demand_91, if_neg (by decide), m_r6, Option.bind_some, c_netAt, Option.bind_some]
        dsimp only
        rw [m_l6 (by omega) (by omega), Option.bind_some, eq_X9_demand_112, iI_add, iI_add, ei]
      · rw [if_pos (by simp [q2]), if_neg q2, eq_X9_demand_90, eq_X9_demand_91, if_pos rfl, eq_X9_demand_112, iI_add, iI_add, ei]
    · rw [if_pos (by simp [q1]), if_neg (by simp [q1]), eq_X9_demand_90, eq_X9_demand_91, if_pos rfl, eq_X9_demand_112, iI_add, iI_add, ei]
theorem c_moveOf {c : Int} (ok : rOk (ma 2)) (h0 : 0 ≤ c) (h1 : c < 20) : fm_X9_moveOf N [.ref a, .int (iI c)] (mH h a mf ma) = some (iI (sMove (ma 1 4) (ma 2) c), mH h a mf ma) := by
  have b3 := ok.1 (36 + 7 * c + 3)
  have b4 := ok.1 (36 + 7 * c + 4)
  have b5 := ok.1 (36 + 7 * c + 5)
  have b6 := ok.1 (36 + 7 * c + 6)
  rw [en_X9_moveOf, eq_X9_moveOf_0, c_cellAt, Option.bind_some]
  dsimp only
  rw [m_r6, Option.bind_some, m_l6 (by omega) (by omega), Option.bind_some, Option.bind_some, iI_add, m_l6 (by omega) (by omega), Option.bind_some, Option.bind_some, iI_add, m_l6 (by omega) (by omega), Option.bind_some, iI_mul, c_far (by omega) (by omega), Option.bind_some]
  dsimp only
  rw [m_r5, Option.bind_some, m_l5 (by omega) (by omega), Option.bind_some, m_r6, Option.bind_some, iI_add, m_l6 (by omega) (by omega), Option.bind_some, Option.bind_some, iI_add, m_l6 (by omega) (by omega), Option.bind_some, eq_X9_moveOf_59, iI_mul, c_far (by omega) (by omega), Option.bind_some]
  dsimp only
  rw [iI_mul, iI_add, iI_mul]
  rfl
end M25
