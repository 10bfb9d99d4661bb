/-! ===== the model: spread, all cells ===== -/
def rSpR (t : Int → Int) (rows sites : Int) (r u : Int → Int) : Nat → Int → Int
  | 0 => r
  | n + 1 => if sFix (rSpR t rows sites r u n) n = true then rSpR t rows sites r u n else rSpC t rows sites (rSpR t rows sites r u n) u n
def rSpN (t : Int → Int) (rows sites : Int) (r u : Int → Int) : Nat → Int → Int
  | 0 => r
  | k + 1 => rSpR t rows sites (rSpN t rows sites r u k) u (r 2).toNat
theorem rSpC_ok {t : Int → Int} {rows sites : Int} {r u : Int → Int} {c : Int} (v : vOk r) (tm : tmOk t) (s1 : 1 ≤ rows ∧ rows ≤ 8) (s2 : 8 ≤ sites ∧ sites ≤ 32) (hu : ∀ b, 0 ≤ b → b < sBins rows sites → 0 ≤ u b ∧ u b ≤ 4096) (h0 : 0 ≤ c) (h1 : c < r 2) : vOk (rSpC t rows sites r u c) ∧ rSpC t rows sites r u c 2 = r 2 := by
  have g2 := v.1.2.2.2.1
  obtain ⟨b1, b2, b3⟩ := sSpB_b v tm s1 s2 hu h0 h1 4
  exact ⟨vOk_want v h0 (by omega) b1 b2, rWant_n (by omega) (by omega)⟩
theorem rSpR_ok {t : Int → Int} {rows sites : Int} {r u : Int → Int} (v : vOk r) (tm : tmOk t) (s1 : 1 ≤ rows ∧ rows ≤ 8) (s2 : 8 ≤ sites ∧ sites ≤ 32) (hu : ∀ b, 0 ≤ b → b < sBins rows sites → 0 ≤ u b ∧ u b ≤ 4096) (n : Nat) (hn : (n : Int) ≤ r 2) : vOk (rSpR t rows sites r u n) ∧ rSpR t rows sites r u n 2 = r 2 := by
  induction n with
  | zero => exact ⟨v, rfl⟩
  | succ n ih =>
    obtain ⟨i1, i2⟩ := ih (by omega)
    rw [rSpR]
    split
    · exact ⟨i1, i2⟩
    · have := rSpC_ok i1 tm s1 s2 hu (c := n) (by omega) (by omega)
      rw [i2] at this
      exact this
theorem rSpN_ok {t : Int → Int} {rows sites : Int} {r u : Int → Int} (v : vOk r) (tm : tmOk t) (s1 : 1 ≤ rows ∧ rows ≤ 8) (s2 : 8 ≤ sites ∧ sites ≤ 32) (hu : ∀ b, 0 ≤ b → b < sBins rows sites → 0 ≤ u b ∧ u b ≤ 4096) (n : Nat) : vOk (rSpN t rows sites r u n) ∧ rSpN t rows sites r u n 2 = r 2 := by
  have g2 := v.1.2.2.2.1
  induction n with
  | zero => exact ⟨v, rfl⟩
  | succ n ih =>
    obtain ⟨i1, i2⟩ := ih
    have := rSpR_ok i1 tm s1 s2 hu (r 2).toNat (by omega)
    rw [i2] at this
    exact this
theorem sSup_b (rows sites : Int) (r : Int → Int) (b : Int) : 0 ≤ sSup rows sites r b ∧ sSup rows sites r b ≤ 4096 := by
  have := aS_b (f := fun i => aS (fun j => sSup1 rows sites r (b / sCols sites * 2 + i) (b % sCols sites * 8 + j)) 8) (lo := 0) (hi := 2048) (n := 2) (fun k _ => by
    have := aS_b (f := fun j => sSup1 rows sites r (b / sCols sites * 2 + k) (b % sCols sites * 8 + j)) (lo := 0) (hi := 256) (n := 8) (fun k _ => by unfold sSup1; split <;> omega)
    omega)
  unfold sSup
  omega
theorem sCost_congr {t : Int → Int} {rows sites : Int} {r u u' : Int → Int} (h : ∀ b, 0 ≤ b → b < sBins rows sites → u b = u' b) : sCost t rows sites r u = sCost t rows sites r u' := by
  unfold sCost sOvf
  rw [aS_congr (fun k hk => by
    unfold sOver
    rw [h k (by omega) (by omega)])]
  rfl
section M30
variable {N : Nat} {h : ka_H} {a : Nat} {mf : Nat → Int} {ma : Nat → Int → Int}
theorem c_spread48 {n k had : Int} (K40 : ka_K (Int32 × ka_H)) (hN : 5000 ≤ N) (v : vOk (ma 2)) (sz : mSz mf) (tm : tmOk (ma 1)) (hu : ∀ b, 0 ≤ b → b < sBins (mf 2) (mf 3) → 0 ≤ ma 24 b ∧ ma 24 b ≤ 4096) :
    ki_fix (cm_X9_spread_48 N K40) N [some (.ref a), some (.int (iI n)), some (.int (iI had)), some (.int (iI k)), some (.int (iI 0))] [] (mH h a mf ma) = K40 [some (.ref a), some (.int (iI n)), some (.int (iI had)), some (.int (iI (k + 1)))] [] (mH h a mf (mA ma 2 (rSpR (ma 1) (mf 2) (mf 3) (ma 2) (ma 24) (ma 2 2).toNat))) := by
  have g2 := v.1.2.2.2.1
  have key := fix_up (B := cm_X9_spread_48 N K40) (R := K40 [some (.ref a), some (.int (iI n)), some (.int (iI had)), some (.int (iI (k + 1)))] [] (mH h a mf (mA ma 2 (rSpR (ma 1) (mf 2) (mf 3) (ma 2) (ma 24) (ma 2 2).toNat)))) (fun i => [some (.ref a), some (.int (iI n)), some (.int (iI had)), some (.int (iI k)), some (.int (iI i))]) (fun i => mH h a mf (mA ma 2 (rSpR (ma 1) (mf 2) (mf 3) (ma 2) (ma 24) i))) (ma 2 2).toNat ?_ ?_ N 0 (by omega) (by omega)
  · simp only [rSpR, mA_self] at key
    exact key
  · intro K
    obtain ⟨o1, o2⟩ := rSpR_ok (u := ma 24) v tm sz.1 sz.2 hu (ma 2 2).toNat (by omega)
    rw [eq_X9_spread_48, m_r6, Option.bind_some, m_l6 (by omega) (by omega), Option.bind_some, mA_2, o2, if_pos ((iI_le ⟨by omega, by omega⟩ ⟨by omega, by omega⟩).mpr (by omega)), iI_add]
  · intro K i hi
    obtain ⟨o1, o2⟩ := rSpR_ok (u := ma 24) v tm sz.1 sz.2 hu i (by omega)
    have ei : ((i + 1 : Nat) : Int) = (i : Int) + 1 := by omega
    rw [eq_X9_spread_48, m_r6, Option.bind_some, m_l6 (by omega) (by omega), Option.bind_some, mA_2, o2, if_neg (fun q => by have := (iI_le ⟨by omega, by omega⟩ ⟨by omega, by omega⟩).mp q; omega), if_pos m_isc, c_isFixed (by omega) (by rw [mA_2]; exact o1.1.1), Option.bind_some, mA_2, rSpR, ei]
    dsimp only
    by_cases q : sFix (rSpR (ma 1) (mf 2) (mf 3) (ma 2) (ma 24) i) i = true
    · rw [if_pos (by rw [q]; exact tb1), if_pos q, eq_X9_spread_74, iI_add]
    · rw [if_neg (by simp [q]), if_neg q, if_pos m_isc, c_spreadCell hN (by rw [mA_2]; exact o1) sz (by rw [mA_n (by decide)]; exact tm) (by rw [mA_n (by decide)]; exact hu) (by omega) (by rw [mA_2, o2]; omega), Option.bind_some, eq_X9_spread_74, iI_add, mA_2, mA_mA, mA_n (by decide), mA_n (by decide)]
theorem c_spread {n : Int} (hN : 5000 ≤ N) (v : vOk (ma 2)) (sz : mSz mf) (tm : tmOk (ma 1)) (h9 : 0 ≤ mf 9 ∧ mf 9 ≤ 12) (hn : -2147483648 ≤ n ∧ n < 2147483648) :
    if vIn n 1 10 = true then ∃ mf' ma' u, (∀ b, 0 ≤ b → b < sBins (mf 2) (mf 3) → u b = sSup (mf 2) (mf 3) (ma 2) b) ∧ fm_X9_spread N [.ref a, .int (iI n)] (mH h a mf ma) = some (iI (sCost (ma 1) (mf 2) (mf 3) (ma 2) u - sCost (ma 1) (mf 2) (mf 3) (rSpN (ma 1) (mf 2) (mf 3) (ma 2) u n.toNat) u), mH h a mf' ma') ∧ mYesP mf ma 11 (rSpN (ma 1) (mf 2) (mf 3) (ma 2) u n.toNat) mf' ma'
    else fm_X9_spread N [.ref a, .int (iI n)] (mH h a mf ma) = some (iI (-1), mNo h a mf ma (-1)) := by
  have no1 := c_no (N := N) (h := h) (a := a) (mf := mf) (ma := ma) (v := -1) (by omega)
  have g2 := v.1.2.2.2.1
  rw [en_X9_spread, eq_X9_spread_0, m_p0, Option.bind_some, iI_long hn.1 hn.2, c_in (by omega) (by omega) (by omega) (by omega) (by omega) (by omega), Option.bind_some]
  dsimp only
  by_cases q1 : vIn n 1 10 = true
  · have b1 := of_decide_eq_true q1
    have hm1s : mSz (mF (mF mf 0 0) 9 (if mf 9 = 12 then 12 else mf 9 + 1)) := sz
    rw [if_pos q1, if_pos (by rw [q1]; exact tb1), if_pos m_isc, c_rem0 hN h9, Option.bind_some, if_pos m_isc, c_laySupply hN (by rw [mRem_2]; exact v.1) hm1s, Option.bind_some, mRem_2, mRem_n (p := 24) (by decide) (by decide)]
    generalize hm1 : mF (mF mf 0 0) 9 (if mf 9 = 12 then 12 else mf 9 + 1) = mf1
    have sz1 : mSz mf1 := by rw [← hm1]; exact sz
    have e2 : mf1 2 = mf 2 := by rw [← hm1]; rfl
    have e3 : mf1 3 = mf 3 := by rw [← hm1]; rfl
    rw [e2, e3]
    generalize hu0 : rCp (sSup (mf 2) (mf 3) (ma 2)) (ma 24) 0 0 (sBins (mf 2) (mf 3)) = u
    have hus : ∀ b, 0 ≤ b → b < sBins (mf 2) (mf 3) → u b = sSup (mf 2) (mf 3) (ma 2) b := by
      intro b x1 x2
      rw [← hu0, rCp_00 x1 x2]
    have hu : ∀ b, 0 ≤ b → b < sBins (mf 2) (mf 3) → 0 ≤ u b ∧ u b ≤ 4096 := by
      intro b x1 x2
      rw [hus b x1 x2]
      exact sSup_b _ _ _ _
    generalize hma : mA (mRem mf ma 11) 24 u = ma1
    have w2 : ma1 2 = ma 2 := by rw [← hma, mA_n (by decide), mRem_2]
    have w1 : ma1 1 = ma 1 := by rw [← hma, mA_n (by decide), mRem_n (by decide) (by decide)]
    have w24 : ma1 24 = u := by rw [← hma, mA_2]
    have hc0 := c_cost (N := N) (h := h) (a := a) (mf := mf1) (ma := ma1) hN (by rw [w2]; exact v.1) (by rw [w2]; exact v.2.1) sz1 (by rw [w1]; exact tm) (by rw [w24, e2, e3]; exact hu)
    rw [w1, w2, w24, e2, e3] at hc0
    rw [if_pos m_isc, hc0, Option.bind_some]
    dsimp only
    refine ⟨mF mf1 1 0, mA ma1 2 (rSpN (ma 1) (mf 2) (mf 3) (ma 2) u n.toNat), u, hus, ?_, ?_⟩
    · have key := fix_up (B := cm_X9_spread_40 N) (R := some (iI (sCost (ma 1) (mf 2) (mf 3) (ma 2) u - sCost (ma 1) (mf 2) (mf 3) (rSpN (ma 1) (mf 2) (mf 3) (ma 2) u n.toNat) u), mH h a (mF mf1 1 0) (mA ma1 2 (rSpN (ma 1) (mf 2) (mf 3) (ma 2) u n.toNat)))) (fun i => [some (.ref a), some (.int (iI n)), some (.int (iI (sCost (ma 1) (mf 2) (mf 3) (ma 2) u))), some (.int (iI i))]) (fun i => mH h a mf1 (mA ma1 2 (rSpN (ma 1) (mf 2) (mf 3) (ma 2) u i))) n.toNat ?_ ?_ N 0 (by omega) (by omega)
      · simp only [rSpN, Int.natCast_zero] at key
        rw [show mA ma1 2 (ma 2) = ma1 by rw [← w2, mA_self]] at key
        exact key
      · intro K
        obtain ⟨o1, o2⟩ := rSpN_ok (rows := mf 2) (sites := mf 3) (u := u) v tm sz.1 sz.2 hu n.toNat
        have hc := c_cost (N := N) (h := h) (a := a) (mf := mf1) (ma := mA ma1 2 (rSpN (ma 1) (mf 2) (mf 3) (ma 2) u n.toNat)) hN (by rw [mA_2]; exact o1.1) (by rw [mA_2]; exact o1.2.1) sz1 (by rw [mA_n (by decide), w1]; exact tm) (by rw [mA_n (by decide), w24, e2, e3]; exact hu)
        rw [mA_2, mA_n (by decide), mA_n (by decide), w1, w24, e2, e3] at hc
        rw [eq_X9_spread_40, if_pos ((iI_le ⟨by omega, by omega⟩ ⟨by omega, by omega⟩).mpr (by omega)), if_pos m_isc, hc, Option.bind_some]
        dsimp only
        rw [if_pos m_isc, c_tell, Option.bind_some, iI_sub]
      · intro K i hi
        obtain ⟨o1, o2⟩ := rSpN_ok (rows := mf 2) (sites := mf 3) (u := u) v tm sz.1 sz.2 hu i
        have ei : ((i + 1 : Nat) : Int) = (i : Int) + 1 := by omega
        have h48 := c_spread48 (N := N) (h := h) (a := a) (mf := mf1) (ma := mA ma1 2 (rSpN (ma 1) (mf 2) (mf 3) (ma 2) u i)) (n := n) (k := i) (had := sCost (ma 1) (mf 2) (mf 3) (ma 2) u) K hN (by rw [mA_2]; exact o1) sz1 (by rw [mA_n (by decide), w1]; exact tm) (by rw [mA_n (by decide), w24, e2, e3]; exact hu)
        rw [mA_2, mA_n (by decide), mA_n (by decide), w1, w24, e2, e3, o2, mA_mA] at h48
        rw [eq_X9_spread_40, if_neg (fun q => by have := (iI_le ⟨by omega, by omega⟩ ⟨by omega, by omega⟩).mp q; omega), h48, ei, rSpN]
    · refine ⟨⟨by rw [← hm1]; rfl, mF_s _ _ _, by rw [← hm1]; rfl, by rw [← hm1]; rfl, by rw [← hm1]; rfl, by rw [← hm1]; rfl⟩, ?_, ?_, mA_2 _ _ _, ?_, ?_, ?_⟩ <;> rw [mA_n (by decide), ← hma, mA_n (by decide)]
      · rw [mRem_n (by decide) (by decide)]
      · rw [mRem_n (by decide) (by decide)]
      · rw [mRem_n (by decide) (by decide)]
  · rw [if_neg q1, if_neg (by simp [q1]), no1]
end M30
