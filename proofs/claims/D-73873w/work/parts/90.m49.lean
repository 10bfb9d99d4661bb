/-! ===== the model: what is told ===== -/
def sSpM (tall : Int) (r : Int → Int) : Int := aS (fun c => if sHas r c = true then sMove tall r c else 0) (r 2).toNat
def sWoS (r : Int → Int) : Int := aS (fun c => if sHas r c = true then 0 else 1) (r 2).toNat
/-- the greatest demand, its first bin, how many above the load -/
def sCrd (load sites : Int) (r : Int → Int) : Nat → Int × Int × Int
  | 0 => (-1, -1, 0)
  | b + 1 => (if sDem sites r b ≤ (sCrd load sites r b).1 then (sCrd load sites r b).1 else sDem sites r b, if sDem sites r b ≤ (sCrd load sites r b).1 then (sCrd load sites r b).2.1 else b, (sCrd load sites r b).2.2 + (if sDem sites r b ≤ load then 0 else 1))
theorem sDem_b {sites : Int} {r : Int → Int} {b : Int} (v : vOk r) : 0 ≤ sDem sites r b ∧ sDem sites r b ≤ 144 := by
  have g3 := v.1.2.2.2.2.1
  have := aS_b (f := fun n : Nat => if sMeet sites r b n = true then r (176 + 14 * n) else 0) (lo := 0) (hi := 9) (n := (r 3).toNat) (fun k hk => by
    have w := v.2.2.2 k (by omega) (by omega)
    split <;> omega)
  unfold sDem
  omega
theorem sCrd_b {load sites : Int} {r : Int → Int} (v : vOk r) (n : Nat) : -1 ≤ (sCrd load sites r n).1 ∧ (sCrd load sites r n).1 ≤ 144 := by
  induction n with
  | zero => simp [sCrd]
  | succ n ih =>
    have := sDem_b (sites := sites) (b := n) v
    rw [sCrd]
    dsimp only
    split <;> omega
def sNts (r : Int → Int) (c : Int) : Int := aS (fun n => if sPO r n c = -1 then 0 else 1) (r 3).toNat
/-- the first and last best sites, the least wire -/
def sBst (tall : Int) (r : Int → Int) (c : Int) : Nat → Int × Int × Int
  | 0 => (-1, -1, 100000000)
  | s + 1 => (if (sBst tall r c s).2.2 ≤ sWire tall (rGive r c (r (36 + 7 * c + 5)) s) then (sBst tall r c s).1 else s, if (sBst tall r c s).2.2 < sWire tall (rGive r c (r (36 + 7 * c + 5)) s) then (sBst tall r c s).2.1 else s, if (sBst tall r c s).2.2 ≤ sWire tall (rGive r c (r (36 + 7 * c + 5)) s) then (sBst tall r c s).2.2 else sWire tall (rGive r c (r (36 + 7 * c + 5)) s))
section M49
variable {N : Nat} {h : ka_H} {a : Nat} {mf : Nat → Int} {ma : Nat → Int → Int}
theorem c_spotMoves (hN : 5000 ≤ N) (ok : rOk (ma 2)) : fm_X9_spotMoves N [.ref a] (mH h a mf ma) = some (iI (sSpM (ma 1 4) (ma 2)), mH h a mf ma) := by
  have g2 := ok.2.2.2.1
  rw [en_X9_spotMoves, eq_X9_spotMoves_0]
  refine fix_up (fun i => [some (.ref a), some (.int (iI (aS (fun c => if sHas (ma 2) c = true then sMove (ma 1 4) (ma 2) c else 0) i))), some (.int (iI i))]) (fun _ => mH h a mf ma) (ma 2 2).toNat ?_ ?_ N 0 (by omega) (by omega)
  · intro K
    rw [eq_X9_spotMoves_4, m_r6, Option.bind_some, m_l6 (by omega) (by omega), Option.bind_some, if_pos ((iI_le ⟨by omega, by omega⟩ ⟨by omega, by omega⟩).mpr (by omega))]
    rfl
  · intro K i hi
    have ei : ((i + 1 : Nat) : Int) = (i : Int) + 1 := by omega
    rw [eq_X9_spotMoves_4, m_r6, Option.bind_some, m_l6 (by omega) (by omega), Option.bind_some, if_neg (fun q => by have := (iI_le ⟨by omega, by omega⟩ ⟨by omega, by omega⟩).mp q; omega), if_pos m_isc, c_hasSpot (by omega) ok.1, Option.bind_some, aS, ei]
    dsimp only
    by_cases q : sHas (ma 2) i = true
    · rw [if_neg (by rw [q]; exact tb1), if_pos q, if_pos m_isc, c_moveOf ok (by omega) (by omega), Option.bind_some, eq_X9_spotMoves_32, iI_add, iI_add]
    · rw [if_pos (by simp [q]), if_neg q, eq_X9_spotMoves_32, iI_add, iI_add]
theorem c_withoutSpot (hN : 5000 ≤ N) (ok : rOk (ma 2)) : fm_X9_withoutSpot N [.ref a] (mH h a mf ma) = some (iI (sWoS (ma 2)), mH h a mf ma) := by
  have g2 := ok.2.2.2.1
  rw [en_X9_withoutSpot, eq_X9_withoutSpot_0]
  refine fix_up (fun i => [some (.ref a), some (.int (iI (aS (fun c => if sHas (ma 2) c = true then 0 else 1) i))), some (.int (iI i))]) (fun _ => mH h a mf ma) (ma 2 2).toNat ?_ ?_ N 0 (by omega) (by omega)
  · intro K
    rw [eq_X9_withoutSpot_4, m_r6, Option.bind_some, m_l6 (by omega) (by omega), Option.bind_some, if_pos ((iI_le ⟨by omega, by omega⟩ ⟨by omega, by omega⟩).mpr (by omega))]
    rfl
  · intro K i hi
    have ei : ((i + 1 : Nat) : Int) = (i : Int) + 1 := by omega
    rw [eq_X9_withoutSpot_4, m_r6, Option.bind_some, m_l6 (by omega) (by omega), Option.bind_some, if_neg (fun q => by have := (iI_le ⟨by omega, by omega⟩ ⟨by omega, by omega⟩).mp q; omega), if_pos m_isc, c_hasSpot (by omega) ok.1, Option.bind_some, aS, ei]
    dsimp only
    by_cases q : sHas (ma 2) i = true
    · rw [if_neg (by rw [q]; exact tb1), if_pos q, eq_X9_withoutSpot_28, iI_add, iI_add]
    · rw [if_pos (by simp [q]), if_neg q, eq_X9_withoutSpot_28, iI_add, iI_add]
theorem c_crowds {w : Int} (hN : 5000 ≤ N) (v : vOk (ma 2)) (sz : mSz mf) (tm : tmOk (ma 1)) (hw : 0 ≤ w ∧ w ≤ 2) : fm_X9_crowds N [.ref a, .int (iI w)] (mH h a mf ma) = some (iI (if w = 0 then (sCrd (ma 1 5) (mf 3) (ma 2) (sBins (mf 2) (mf 3)).toNat).1 else if w = 1 then (sCrd (ma 1 5) (mf 3) (ma 2) (sBins (mf 2) (mf 3)).toNat).2.1 else (sCrd (ma 1 5) (mf 3) (ma 2) (sBins (mf 2) (mf 3)).toNat).2.2), mH h a mf ma) := by
  have s2 := sBins_b sz.1 sz.2
  have t5 := tm.2.2.2.2.2
  rw [en_X9_crowds, eq_X9_crowds_0]
  refine fix_up (fun i => [some (.ref a), some (.int (iI w)), some (.int (iI (sCrd (ma 1 5) (mf 3) (ma 2) i).1)), some (.int (iI (sCrd (ma 1 5) (mf 3) (ma 2) i).2.1)), some (.int (iI (sCrd (ma 1 5) (mf 3) (ma 2) i).2.2)), some (.int (iI i))]) (fun _ => mH h a mf ma) (sBins (mf 2) (mf 3)).toNat ?_ ?_ N 0 (by omega) (by omega)
  · intro K
    rw [eq_X9_crowds_10, if_pos m_isc, c_bins sz, Option.bind_some]
    dsimp only
    rw [if_pos ((iI_le ⟨by omega, by omega⟩ ⟨by omega, by omega⟩).mpr (by omega))]
    simp (disch := omega) only [iI_eqD, eq_X9_crowds_99]
    by_cases q1 : w = 0 <;> by_cases q2 : w = 1 <;> simp [q1, q2]
  · intro K i hi
    have ei : ((i + 1 : Nat) : Int) = (i : Int) + 1 := by omega
    have bd := sDem_b (sites := mf 3) (b := i) v
    have bc := sCrd_b (load := ma 1 5) (sites := mf 3) v i
    rw [eq_X9_crowds_10, if_pos m_isc, c_bins sz, Option.bind_some]
    dsimp only
    rw [if_neg (fun q => by have := (iI_le ⟨by omega, by omega⟩ ⟨by omega, by omega⟩).mp q; omega), if_pos m_isc, c_demand hN v.1 v.2.1 sz (by omega), Option.bind_some, sCrd]
    dsimp only
    simp (disch := omega) only [iI_leD, eq_X9_crowds_39, eq_X9_crowds_52, eq_X9_crowds_71, m_r5, m_l5, Option.bind_some, iI_add, ei]
    by_cases q1 : sDem (mf 3) (ma 2) i ≤ (sCrd (ma 1 5) (mf 3) (ma 2) i).1 <;> by_cases q2 : sDem (mf 3) (ma 2) i ≤ ma 1 5 <;> simp [q1, q2]
theorem c_wireWith {c R S : Int} (hN : 5000 ≤ N) (v : vOk (ma 2)) (hc : 0 ≤ c ∧ c < 20) (hR : -1 ≤ R ∧ R ≤ 600) (hS : -1 ≤ S ∧ S ≤ 600) : fm_X9_wireWith N [.ref a, .int (iI c), .int (iI R), .int (iI S)] (mH h a mf ma) = some (iI (sWire (ma 1 4) (rGive (ma 2) c R S)), mH h a mf ma) := by
  have vg := vOk_give v hc.1 hc.2 hR hS
  rw [en_X9_wireWith, eq_X9_wireWith_0, m_r6, Option.bind_some, c_cellAt, Option.bind_some]
  dsimp only
  rw [iI_add, m_l6 (by omega) (by omega), Option.bind_some, m_r6, Option.bind_some, c_cellAt, Option.bind_some]
  dsimp only
  rw [iI_add, m_l6 (by omega) (by omega), Option.bind_some, if_pos m_isc, c_give hc.1 hc.2, Option.bind_some, if_pos m_isc, c_wireV hN vg, Option.bind_some]
  dsimp only
  rw [if_pos m_isc, c_give hc.1 hc.2, Option.bind_some, mA_2, mA_mA, rGive_give, rGive_self, mA_self]
theorem c_would {c R S : Int} (hN : 5000 ≤ N) (v : vOk (ma 2)) (sz : mSz mf) (hc : -2147483648 ≤ c ∧ c < 2147483648) (hR : -2147483648 ≤ R ∧ R < 2147483648) (hS : -2147483648 ≤ S ∧ S < 2147483648) : fm_X9_would N [.ref a, .int (iI c), .int (iI R), .int (iI S)] (mH h a mf ma) = some (iI (if (vIn c 0 (ma 2 2 - 1) && ((vIn R 0 (mf 2 - 1) && vIn S 0 (mf 3 - 1)) && decide (S + ma 2 (36 + 7 * c) ≤ mf 3))) = true then sWire (ma 1 4) (rGive (ma 2) c R S) else -1), mH h a (mF mf 0 0) ma) := by
  have g2 := v.1.2.2.2.1
  have s1 := sz.1
  have s2 := sz.2
  have sz0 : mSz (mF mf 0 0) := sz
  have e2 : mF mf 0 0 2 = mf 2 := rfl
  have e3 : mF mf 0 0 3 = mf 3 := rfl
  rw [en_X9_would, eq_X9_would_0, m_p0, Option.bind_some, if_pos m_isc, c_isCell hc v.1.1, Option.bind_some, eq_X9_would_46, eq_X9_would_47]
  dsimp only
  by_cases q1 : vIn c 0 (ma 2 2 - 1) = true
  · have b1 := of_decide_eq_true q1
    have bw := v.1.2.2.2.2.2 c (by omega) (by omega)
    rw [if_neg (c := (if vIn c 0 (ma 2 2 - 1) = true then iI 1 else iI 0) = iI 0) (by rw [q1]; exact tb1), if_pos m_isc, c_isSite sz0.1 sz0.2 hR hS, Option.bind_some, e2, e3, q1, Bool.true_and, eq_X9_would_46, eq_X9_would_47]
    dsimp only
    by_cases q2 : (vIn R 0 (mf 2 - 1) && vIn S 0 (mf 3 - 1)) = true
    · have q2' := q2
      rw [Bool.and_eq_true] at q2'
      have bR := of_decide_eq_true q2'.1
      have bS := of_decide_eq_true q2'.2
      rw [if_neg (c := (if (vIn R 0 (mf 2 - 1) && vIn S 0 (mf 3 - 1)) = true then iI 1 else iI 0) = iI 0) (by rw [q2]; exact tb1), if_pos m_isc, c_width (by omega) (by omega), Option.bind_some, q2, Bool.true_and]
      dsimp only
      rw [m_g3, Option.bind_some, e3, iI_add]
      by_cases q3 : S + ma 2 (36 + 7 * c) ≤ mf 3
      · rw [if_neg (fun z => by have := (iI_lt ⟨by omega, by omega⟩ ⟨by omega, by omega⟩).mp z; omega), if_pos m_isc, c_wireWith hN v (by omega) (by omega) (by omega), Option.bind_some, decide_eq_true q3, if_pos rfl, eq_X9_would_47]
      · rw [if_pos ((iI_lt ⟨by omega, by omega⟩ ⟨by omega, by omega⟩).mpr (by omega)), decide_eq_false q3, if_neg (by decide), eq_X9_would_46, eq_X9_would_47]
    · have q2' : (vIn R 0 (mf 2 - 1) && vIn S 0 (mf 3 - 1)) = false := by simpa using q2
      rw [q2', if_pos (by rfl), Bool.false_and, if_neg (by decide)]
  · have q1' : vIn c 0 (ma 2 2 - 1) = false := by simpa using q1
    rw [q1', if_pos (by rfl), Bool.false_and, if_neg (by decide)]
theorem sBst_b {tall : Int} {r : Int → Int} {c : Int} (ht : 1 ≤ tall ∧ tall ≤ 8) (v : vOk r) (hc : 0 ≤ c ∧ c < 20) (n : Nat) (hn : n ≤ 100) : 0 ≤ (sBst tall r c n).2.2 ∧ (sBst tall r c n).2.2 ≤ 100000000 := by
  induction n with
  | zero => simp [sBst]
  | succ n ih =>
    have i1 := ih (by omega)
    have bw := sWire_b ht (vOk_give (c := c) (R := r (36 + 7 * c + 5)) (S := n) v hc.1 hc.2 (v.1.1 _) (by omega))
    rw [sBst]
    dsimp only
    split <;> omega
theorem c_best {c w : Int} (hN : 5000 ≤ N) (v : vOk (ma 2)) (sz : mSz mf) (tm : tmOk (ma 1)) (hc : -2147483648 ≤ c ∧ c < 2147483648) (hw : -2147483648 ≤ w ∧ w < 2147483648) : fm_X9_best N [.ref a, .int (iI c), .int (iI w)] (mH h a mf ma) = some (iI (if ((vIn c 0 (ma 2 2 - 1) && sHas (ma 2) c.toNat) && vIn w 0 2) = true then (if w = 0 then (sBst (ma 1 4) (ma 2) c (mf 3 - ma 2 (36 + 7 * c) + 1).toNat).1 else if w = 1 then (sBst (ma 1 4) (ma 2) c (mf 3 - ma 2 (36 + 7 * c) + 1).toNat).2.1 else (sBst (ma 1 4) (ma 2) c (mf 3 - ma 2 (36 + 7 * c) + 1).toNat).2.2) else -1), mH h a (mF mf 0 0) ma) := by
  have g2 := v.1.2.2.2.1
  have t4 := tm.2.2.2.2.1
  have s2 := sz.2
  have e3 : mF mf 0 0 3 = mf 3 := rfl
  rw [en_X9_best, eq_X9_best_0, m_p0, Option.bind_some, if_pos m_isc, c_isCell hc v.1.1, Option.bind_some, eq_X9_best_33]
  dsimp only
  by_cases q1 : vIn c 0 (ma 2 2 - 1) = true
  · have b1 := of_decide_eq_true q1
    have bw := v.1.2.2.2.2.2 c (by omega) (by omega)
    obtain ⟨d, rfl⟩ : ∃ d : Nat, c = d := ⟨c.toNat, by omega⟩
    rw [if_neg (c := (if vIn d 0 (ma 2 2 - 1) = true then iI 1 else iI 0) = iI 0) (by rw [q1]; exact tb1), if_pos m_isc, c_hasSpot (by omega) v.1.1, Option.bind_some, q1, Bool.true_and, Int.toNat_natCast, eq_X9_best_33]
    dsimp only
    by_cases q2 : sHas (ma 2) d = true
    · rw [if_neg (c := (if sHas (ma 2) d = true then iI 1 else iI 0) = iI 0) (by rw [q2]; exact tb1), iI_long hw.1 hw.2, c_in (by omega) (by omega) (by omega) (by omega) (by omega) (by omega), Option.bind_some, q2, Bool.true_and, eq_X9_best_33]
      dsimp only
      by_cases q3 : vIn w 0 2 = true
      · have b3 := of_decide_eq_true q3
        rw [if_pos (c := ¬ (if vIn w 0 2 = true then iI 1 else iI 0) = iI 0) (by rw [q3]; exact tb1), if_pos q3]
        have cw := c_width (N := N) (h := h) (a := a) (mf := mF mf 0 0) (ma := ma) (c := d) (by omega) (by omega)
        refine fix_up (fun i => [some (.ref a), some (.int (iI d)), some (.int (iI w)), some (.int (iI (sBst (ma 1 4) (ma 2) d i).1)), some (.int (iI (sBst (ma 1 4) (ma 2) d i).2.1)), some (.int (iI (sBst (ma 1 4) (ma 2) d i).2.2)), some (.int (iI i))]) (fun _ => mH h a (mF mf 0 0) ma) (mf 3 - ma 2 (36 + 7 * d) + 1).toNat ?_ ?_ N 0 (by omega) (by omega)
        · intro K
          rw [eq_X9_best_47, if_pos m_isc, cw, Option.bind_some]
          dsimp only
          rw [m_g3, Option.bind_some, e3, iI_add, if_pos ((iI_lt ⟨by omega, by omega⟩ ⟨by omega, by omega⟩).mpr (by omega))]
          simp (disch := omega) only [iI_eqD, eq_X9_best_154]
          by_cases p1 : w = 0 <;> by_cases p2 : w = 1 <;> simp [p1, p2]
        · intro K i hi
          have ei : ((i + 1 : Nat) : Int) = (i : Int) + 1 := by omega
          have vg := vOk_give (c := d) (R := ma 2 (36 + 7 * d + 5)) (S := i) v (by omega) (by omega) (v.1.1 _) (by omega)
          have bw1 := sWire_b t4 vg
          have bb := sBst_b (c := d) t4 v (by omega) i (by omega)
          rw [eq_X9_best_47, if_pos m_isc, cw, Option.bind_some]
          dsimp only
          rw [m_g3, Option.bind_some, e3, iI_add, if_neg (fun z => by have := (iI_lt ⟨by omega, by omega⟩ ⟨by omega, by omega⟩).mp z; omega), m_r6, Option.bind_some, c_cellAt, Option.bind_some]
          dsimp only
          rw [iI_add, m_l6 (by omega) (by omega), Option.bind_some, if_pos m_isc, c_wireWith hN v (by omega) (v.1.1 _) (by omega), Option.bind_some, sBst]
          dsimp only
          simp (disch := omega) only [iI_leD, iI_ltD, eq_X9_best_95, eq_X9_best_110, eq_X9_best_126, iI_add, ei]
          generalize sWire (ma 1 4) (rGive (ma 2) d (ma 2 (36 + 7 * d + 5)) i) = u
          generalize sBst (ma 1 4) (ma 2) d i = x
          by_cases p1 : x.2.2 ≤ u <;> by_cases p2 : x.2.2 < u <;> simp [p1, p2]
      · rw [if_neg (c := ¬ (if vIn w 0 2 = true then iI 1 else iI 0) = iI 0) (by simp [q3]), if_neg q3]
    · have q2' : sHas (ma 2) d = false := by simpa using q2
      rw [q2', if_pos (by rfl), Bool.false_and, if_neg (by decide)]
  · have q1' : vIn c 0 (ma 2 2 - 1) = false := by simpa using q1
    rw [q1', if_pos (by rfl), Bool.false_and, Bool.false_and, if_neg (by decide)]
theorem c_status : fm_X9_status N [.ref a] (mH h a mf ma) = some (iI (mf 1), mH h a (mF mf 0 0) ma) := by
  rw [en_X9_status, eq_X9_status_0, m_p0, Option.bind_some, m_g1, Option.bind_some]
  rfl
end M49
