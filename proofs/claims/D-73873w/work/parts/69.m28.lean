/-! ===== the model: start ===== -/
/-- the model behind an act, whatever its scratch holds -/
def mYesP (mf : Nat → Int) (ma : Nat → Int → Int) (w : Int) (r : Int → Int) (mf' : Nat → Int) (ma' : Nat → Int → Int) : Prop :=
  (mf' 0 = 0 ∧ mf' 1 = 0 ∧ mf' 2 = mf 2 ∧ mf' 3 = mf 3 ∧ mf' 9 = (if mf 9 = 12 then 12 else mf 9 + 1) ∧ mf' 13 = mf 13) ∧ (ma' 0 = ma 0 ∧ ma' 1 = ma 1 ∧ ma' 2 = r ∧ ma' 3 = mRem mf ma w 3 ∧ ma' 4 = mRem mf ma w 4 ∧ ma' 7 = ma 7)
theorem mRem_n {mf : Nat → Int} {ma : Nat → Int → Int} {w : Int} {p : Nat} (h3 : p ≠ 3) (h4 : p ≠ 4) : mRem mf ma w p = ma p := by
  unfold mRem
  split <;> rw [mA_n h4, mA_n h3]
theorem rCp_00 {f g : Int → Int} {n j : Int} (h0 : 0 ≤ j) (h1 : j < n) : rCp f g 0 0 n j = f j := by
  unfold rCp
  rw [if_pos (by omega), Int.sub_zero, Int.zero_add]
def rStR (rows sites : Int) (r : Int → Int) : Nat → Int → Int
  | 0 => r
  | n + 1 => if sFix (rStR rows sites r n) n = true then rStR rows sites r n else rStC rows sites (rStR rows sites r n) n
def rStN (rows sites : Int) (r : Int → Int) : Nat → Int → Int
  | 0 => r
  | k + 1 => rStR rows sites (rStN rows sites r k) (r 2).toNat
theorem rStC_ok {rows sites : Int} {r : Int → Int} {c : Int} (v : vOk r) (s1 : 1 ≤ rows ∧ rows ≤ 8) (s2 : 8 ≤ sites ∧ sites ≤ 32) (h0 : 0 ≤ c) (h1 : c < r 2) : vOk (rStC rows sites r c) ∧ rStC rows sites r c 2 = r 2 := by
  have g2 := v.1.2.2.2.1
  have w := v.1.2.2.2.2.2 c h0 h1
  unfold rStC
  have hX := sHX_b (sites := sites) (r := r) (c := c) (x := sStX r c / sStW r c) (by omega)
  have hY := sHY_b (rows := rows) (r := r) (c := c) (y := sStY r c / sStW r c) (by omega)
  split
  · exact ⟨v, rfl⟩
  · refine ⟨vOk_u (vOk_u v h0 (by omega) (by omega) (by omega)) h0 (by omega) (by omega) (by omega), ?_⟩
    rw [rU_n (by omega), rU_n (by omega)]
theorem rStR_ok {rows sites : Int} {r : Int → Int} (v : vOk r) (s1 : 1 ≤ rows ∧ rows ≤ 8) (s2 : 8 ≤ sites ∧ sites ≤ 32) (n : Nat) (hn : (n : Int) ≤ r 2) : vOk (rStR rows sites r n) ∧ rStR rows sites r n 2 = r 2 := by
  induction n with
  | zero => exact ⟨v, rfl⟩
  | succ n ih =>
    obtain ⟨i1, i2⟩ := ih (by omega)
    rw [rStR]
    split
    · exact ⟨i1, i2⟩
    · have := rStC_ok i1 s1 s2 (c := n) (by omega) (by omega)
      rw [i2] at this
      exact this
theorem rStN_ok {rows sites : Int} {r : Int → Int} (v : vOk r) (s1 : 1 ≤ rows ∧ rows ≤ 8) (s2 : 8 ≤ sites ∧ sites ≤ 32) (n : Nat) : vOk (rStN rows sites r n) ∧ rStN rows sites r n 2 = r 2 := by
  have g2 := v.1.2.2.2.1
  induction n with
  | zero => exact ⟨v, rfl⟩
  | succ n ih =>
    obtain ⟨i1, i2⟩ := ih
    have := rStR_ok i1 s1 s2 (r 2).toNat (by omega)
    rw [i2] at this
    exact this
/-- how many cells lie elsewhere in their wants -/
def sOth (r r0 : Int → Int) : Nat → Int := aS (fun c => if r (36 + 7 * c + 3) = r0 (36 + 7 * c + 3) ∧ r (36 + 7 * c + 4) = r0 (36 + 7 * c + 4) then 0 else 1)
section M28
variable {N : Nat} {h : ka_H} {a : Nat} {mf : Nat → Int} {ma : Nat → Int → Int}
theorem c_start51 {n k : Int} (K44 : ka_K (Int32 × ka_H)) (hN : 5000 ≤ N) (v : vOk (ma 2)) (sz : mSz mf) :
    ki_fix (cm_X9_start_51 N K44) N [some (.ref a), some (.int (iI n)), some (.int (iI k)), some (.int (iI 0))] [] (mH h a mf ma) = K44 [some (.ref a), some (.int (iI n)), some (.int (iI (k + 1)))] [] (mH h a mf (mA ma 2 (rStR (mf 2) (mf 3) (ma 2) (ma 2 2).toNat))) := by
  have g2 := v.1.2.2.2.1
  have key := fix_up (B := cm_X9_start_51 N K44) (R := K44 [some (.ref a), some (.int (iI n)), some (.int (iI (k + 1)))] [] (mH h a mf (mA ma 2 (rStR (mf 2) (mf 3) (ma 2) (ma 2 2).toNat)))) (fun i => [some (.ref a), some (.int (iI n)), some (.int (iI k)), some (.int (iI i))]) (fun i => mH h a mf (mA ma 2 (rStR (mf 2) (mf 3) (ma 2) i))) (ma 2 2).toNat ?_ ?_ N 0 (by omega) (by omega)
  · simp only [rStR, mA_self] at key
    exact key
  · intro K
    obtain ⟨o1, o2⟩ := rStR_ok v sz.1 sz.2 (ma 2 2).toNat (by omega)
    rw [eq_X9_start_51, m_r6, Option.bind_some, m_l6 (by omega) (by omega), Option.bind_some, mA_2, o2, if_pos ((iI_le ⟨by omega, by omega⟩ ⟨by omega, by omega⟩).mpr (by omega)), iI_add]
  · intro K i hi
    obtain ⟨o1, o2⟩ := rStR_ok v sz.1 sz.2 i (by omega)
    have ei : ((i + 1 : Nat) : Int) = (i : Int) + 1 := by omega
    rw [eq_X9_start_51, m_r6, Option.bind_some, m_l6 (by omega) (by omega), Option.bind_some, mA_2, o2, if_neg (fun q => by have := (iI_le ⟨by omega, by omega⟩ ⟨by omega, by omega⟩).mp q; omega), if_pos m_isc, c_isFixed (by omega) (by rw [mA_2]; exact o1.1.1), Option.bind_some, mA_2, rStR, ei]
    dsimp only
    by_cases q : sFix (rStR (mf 2) (mf 3) (ma 2) i) i = true
    · rw [if_pos (by rw [q]; exact tb1), if_pos q, eq_X9_start_74, iI_add]
    · rw [if_neg (by simp [q]), if_neg q, if_pos m_isc, c_startCell hN (by rw [mA_2]; exact o1) sz (by omega) (by rw [mA_2, o2]; omega), Option.bind_some, eq_X9_start_74, iI_add, mA_2, mA_mA]
theorem c_start90 {n : Int} (hN : 5000 ≤ N) (ok : rOk (ma 2)) (h5 : ∀ j, 0 ≤ j → j < 400 → -1 ≤ ma 5 j ∧ ma 5 j ≤ 600) :
    ki_fix (cm_X9_start_90 N) N [some (.ref a), some (.int (iI n)), some (.int (iI 0)), some (.int (iI 0))] [] (mH h a mf ma) = some (iI (sOth (ma 2) (ma 5) (ma 2 2).toNat), mH h a (mF mf 1 0) ma) := by
  have g2 := ok.2.2.2.1
  refine fix_up (fun i => [some (.ref a), some (.int (iI n)), some (.int (iI (sOth (ma 2) (ma 5) i))), some (.int (iI i))]) (fun _ => mH h a mf ma) (ma 2 2).toNat ?_ ?_ N 0 (by omega) (by omega)
  · intro K
    rw [eq_X9_start_90, m_r6, Option.bind_some, m_l6 (by omega) (by omega), Option.bind_some, if_pos ((iI_le ⟨by omega, by omega⟩ ⟨by omega, by omega⟩).mpr (by omega)), if_pos m_isc, c_tell, Option.bind_some]
  · intro K i hi
    have ei : ((i + 1 : Nat) : Int) = (i : Int) + 1 := by omega
    have b1 := ok.1 (36 + 7 * i + 3)
    have b2 := ok.1 (36 + 7 * i + 4)
    have b3 := h5 (36 + 7 * i + 3) (by omega) (by omega)
    have b4 := h5 (36 + 7 * i + 4) (by omega) (by omega)
    rw [eq_X9_start_90, m_r6, Option.bind_some, m_l6 (by omega) (by omega), Option.bind_some, if_neg (fun q => by have := (iI_le ⟨by omega, by omega⟩ ⟨by omega, by omega⟩).mp q; omega), c_cellAt, Option.bind_some]
    dsimp only
    rw [m_r6, Option.bind_some, iI_add, m_l6 (by omega) (by omega), Option.bind_some, m_r10, Option.bind_some, m_l10 (by omega) (by omega), Option.bind_some, Option.bind_some, iI_add, m_l6 (by omega) (by omega), Option.bind_some, Option.bind_some, m_l10 (by omega) (by omega), Option.bind_some]
    simp only [eq_X9_start_153, eq_X9_start_154]
    show _ = K [some (.ref a), some (.int (iI n)), some (.int (iI (sOth (ma 2) (ma 5) i + (if ma 2 (36 + 7 * i + 3) = ma 5 (36 + 7 * i + 3) ∧ ma 2 (36 + 7 * i + 4) = ma 5 (36 + 7 * i + 4) then 0 else 1)))), some (.int (iI ((i + 1 : Nat) : Int)))] [] _
    simp (disch := omega) only [ei, iI_eqD]
    by_cases q1 : ma 2 (36 + 7 * i + 3) = ma 5 (36 + 7 * i + 3) <;> by_cases q2 : ma 2 (36 + 7 * i + 4) = ma 5 (36 + 7 * i + 4) <;> simp [q1, q2, iI_add]
theorem c_start {n : Int} (hN : 5000 ≤ N) (v : vOk (ma 2)) (sz : mSz mf) (h9 : 0 ≤ mf 9 ∧ mf 9 ≤ 12) (hn : -2147483648 ≤ n ∧ n < 2147483648) :
    if vIn n 1 20 = true then ∃ mf' ma', fm_X9_start N [.ref a, .int (iI n)] (mH h a mf ma) = some (iI (sOth (rStN (mf 2) (mf 3) (ma 2) n.toNat) (ma 2) (ma 2 2).toNat), mH h a mf' ma') ∧ mYesP mf ma 10 (rStN (mf 2) (mf 3) (ma 2) n.toNat) mf' ma'
    else fm_X9_start N [.ref a, .int (iI n)] (mH h a mf ma) = some (iI (-1), mNo h a mf ma (-1)) := by
  have no1 := c_no (N := N) (h := h) (a := a) (mf := mf) (ma := ma) (v := -1) (by omega)
  have g2 := v.1.2.2.2.1
  rw [en_X9_start, eq_X9_start_0, m_p0, Option.bind_some, iI_long hn.1 hn.2, c_in (by omega) (by omega) (by omega) (by omega) (by omega) (by omega), Option.bind_some]
  dsimp only
  by_cases q1 : vIn n 1 20 = true
  · have b1 := of_decide_eq_true q1
    rw [if_pos q1, if_pos (by rw [q1]; exact tb1), if_pos m_isc, c_rem0 hN h9, Option.bind_some, m_r6, Option.bind_some, m_r10, Option.bind_some, c_copy (p := 2) (q := 5) hN (by decide) (by decide) (by decide) (by omega) (by omega) (by simp [mLen]) (by simp [mLen]), Option.bind_some, mRem_2, mRem_n (p := 5) (by decide) (by decide)]
    generalize hm1 : mF (mF mf 0 0) 9 (if mf 9 = 12 then 12 else mf 9 + 1) = mf1
    have sz1 : mSz mf1 := by rw [← hm1]; exact sz
    have e2 : mf1 2 = mf 2 := by rw [← hm1]; rfl
    have e3 : mf1 3 = mf 3 := by rw [← hm1]; rfl
    generalize hma : mA (mRem mf ma 10) 5 (rCp (ma 2) (ma 5) 0 0 400) = ma1
    have w2 : ma1 2 = ma 2 := by rw [← hma, mA_n (by decide), mRem_2]
    have w5 : ma1 5 = rCp (ma 2) (ma 5) 0 0 400 := by rw [← hma, mA_2]
    have key := fix_up (B := cm_X9_start_44 N) (R := some (iI (sOth (rStN (mf 2) (mf 3) (ma 2) n.toNat) (ma 2) (ma 2 2).toNat), mH h a (mF mf1 1 0) (mA ma1 2 (rStN (mf 2) (mf 3) (ma 2) n.toNat)))) (fun i => [some (.ref a), some (.int (iI n)), some (.int (iI i))]) (fun i => mH h a mf1 (mA ma1 2 (rStN (mf 2) (mf 3) (ma 2) i))) n.toNat ?_ ?_ N 0 (by omega) (by omega)
    · refine ⟨mF mf1 1 0, mA ma1 2 (rStN (mf 2) (mf 3) (ma 2) n.toNat), ?_, ?_⟩
      · simp only [rStN, Int.natCast_zero] at key
        rw [show mA ma1 2 (ma 2) = ma1 by rw [← w2, mA_self]] at key
        exact key
      · refine ⟨⟨by rw [← hm1]; rfl, mF_s _ _ _, by rw [← hm1]; rfl, by rw [← hm1]; rfl, by rw [← hm1]; rfl, by rw [← hm1]; rfl⟩, ?_, ?_, mA_2 _ _ _, ?_, ?_, ?_⟩ <;> rw [mA_n (by decide), ← hma, mA_n (by decide)]
        · rw [mRem_n (by decide) (by decide)]
        · rw [mRem_n (by decide) (by decide)]
        · rw [mRem_n (by decide) (by decide)]
    · intro K
      obtain ⟨o1, o2⟩ := rStN_ok (rows := mf 2) (sites := mf 3) v sz.1 sz.2 n.toNat
      have hc := c_start90 (N := N) (h := h) (a := a) (mf := mf1) (ma := mA ma1 2 (rStN (mf 2) (mf 3) (ma 2) n.toNat)) (n := n) hN (by rw [mA_2]; exact o1.1) (by
        intro j j0 j1
        rw [mA_n (by decide), w5]
        unfold rCp
        rw [if_pos (by omega)]
        exact v.1.1 _)
      rw [mA_2, mA_n (by decide), w5, o2] at hc
      have es : sOth (rStN (mf 2) (mf 3) (ma 2) n.toNat) (rCp (ma 2) (ma 5) 0 0 400) (ma 2 2).toNat = sOth (rStN (mf 2) (mf 3) (ma 2) n.toNat) (ma 2) (ma 2 2).toNat := by
        unfold sOth
        refine aS_congr (fun k hk => ?_)
        rw [rCp_00 (by omega) (by omega), rCp_00 (by omega) (by omega)]
      rw [eq_X9_start_44, if_pos ((iI_le ⟨by omega, by omega⟩ ⟨by omega, by omega⟩).mpr (by omega)), hc, es]
    · intro K i hi
      obtain ⟨o1, o2⟩ := rStN_ok (rows := mf 2) (sites := mf 3) v sz.1 sz.2 i
      have ei : ((i + 1 : Nat) : Int) = (i : Int) + 1 := by omega
      rw [eq_X9_start_44, if_neg (fun q => by have := (iI_le ⟨by omega, by omega⟩ ⟨by omega, by omega⟩).mp q; omega), c_start51 K hN (by rw [mA_2]; exact o1) sz1, mA_2, mA_mA, ei, rStN, e2, e3, o2]
  · rw [if_neg q1, if_neg (by simp [q1]), no1]
end M28
