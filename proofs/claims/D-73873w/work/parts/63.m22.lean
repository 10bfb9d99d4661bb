/-! ===== the model: fix, put ===== -/
theorem nOk_of {r r' : Int → Int} (h2 : r' 2 = r 2) (h3 : r' 3 = r 3) (hh : ∀ j, 176 ≤ j → r' j = r j) (nk : nOk r) : nOk r' := by
  intro n h0 h1
  rw [h3] at h1
  obtain ⟨k1, k2⟩ := nk n h0 h1
  have e : r' (176 + 14 * n + 1) = r (176 + 14 * n + 1) := hh _ (by omega)
  rw [e]
  refine ⟨k1, ?_⟩
  intro k a1 a2 a3
  have e2 : sWho r' n k = sWho r n k := hh _ (by omega)
  rw [e2] at a3
  rw [e2, h2]
  exact k2 k a1 a2 a3
theorem nOk_give {r : Int → Int} {c R S : Int} (h0 : 0 ≤ c) (h1 : c < 20) (nk : nOk r) : nOk (rGive r c R S) := nOk_of (rGive_n (by omega) (by omega)) (rGive_n (by omega) (by omega)) (fun j hj => rGive_n (by omega) (by omega)) nk
section M22
variable {N : Nat} {h : ka_H} {a : Nat} {mf : Nat → Int} {ma : Nat → Int → Int}
/-- cells on a spot lose theirs, site by site -/
def rFx (r : Int → Int) (c R S : Int) : Nat → Int → Int
  | 0 => r
  | i + 1 => if sCel (rFx r c R S i) R (S + i) c false = -1 then rFx r c R S i else rGive (rFx r c R S i) (sCel (rFx r c R S i) R (S + i) c false) (-1) (-1)
def nFx (r : Int → Int) (c R S : Int) : Nat → Int
  | 0 => 0
  | i + 1 => if sCel (rFx r c R S i) R (S + i) c false = -1 then nFx r c R S i else nFx r c R S i + 1
theorem rFx_ok {r : Int → Int} {c R S : Int} (ok : rOk r) (i : Nat) : rOk (rFx r c R S i) ∧ ∀ d, 36 + 7 * d ≤ 36 + 7 * 20 → rFx r c R S i 2 = r 2 ∧ rFx r c R S i (36 + 7 * d) = r (36 + 7 * d) := by
  induction i with
  | zero => exact ⟨ok, fun d _ => ⟨rfl, rfl⟩⟩
  | succ i ih =>
    rw [rFx]
    have g2 := ih.1.2.2.2.1
    have b := sCel_b (rFx r c R S i) R (S + i) c false g2.2
    split
    · exact ih
    · refine ⟨rOk_give ih.1 (by omega) (by omega) (by omega), ?_⟩
      intro d hd
      rw [rGive_n (by omega) (by omega), rGive_n (by omega) (by omega)]
      exact ih.2 d hd
def rFixed (r : Int → Int) (c R S : Int) : Int → Int := rU (rU (rU (rGive r c R S) (36 + 7 * c + 2) 1) (36 + 7 * c + 3) (16 * S)) (36 + 7 * c + 4) (16 * R)
theorem c_fix {c R S : Int} (hN : 5000 ≤ N) (ok : rOk (ma 2)) (sz : mSz mf) (h9 : 0 ≤ mf 9 ∧ mf 9 ≤ 12) (hc : -2147483648 ≤ c ∧ c < 2147483648) (hR : -2147483648 ≤ R ∧ R < 2147483648) (hS : -2147483648 ≤ S ∧ S < 2147483648) :
    fm_X9_fix N [.ref a, .int (iI c), .int (iI R), .int (iI S)] (mH h a mf ma) =
      if (vIn R 0 (mf 2 - 1) && vIn S 0 (mf 3 - 1)) = true then
        (if vIn c 0 (ma 2 2 - 1) = true then
          (if (!sFix (ma 2) c.toNat && sLaw (mf 2) (mf 3) (ma 2) c.toNat R S true) = true then some (iI (nFx (ma 2) c R S (ma 2 (36 + 7 * c)).toNat), mYes h a mf ma 6 (rFixed (rFx (ma 2) c R S (ma 2 (36 + 7 * c)).toNat) c R S)) else some (iI (-4), mNo h a mf ma (-4)))
        else some (iI (-2), mNo h a mf ma (-2)))
      else some (iI (-1), mNo h a mf ma (-1)) := by
  have g2 := ok.2.2.2.1
  have sz0 : mSz (mF mf 0 0) := sz
  have hs1 := sz.1
  have hs2 := sz.2
  have no1 := c_no (N := N) (h := h) (a := a) (mf := mf) (ma := ma) (v := -1) (by omega)
  have no2 := c_no (N := N) (h := h) (a := a) (mf := mf) (ma := ma) (v := -2) (by omega)
  have no4 := c_no (N := N) (h := h) (a := a) (mf := mf) (ma := ma) (v := -4) (by omega)
  have e2 : mF mf 0 0 2 = mf 2 := rfl
  have e3 : mF mf 0 0 3 = mf 3 := rfl
  rw [en_X9_fix, eq_X9_fix_0, m_p0, Option.bind_some, if_pos m_isc, c_isSite sz0.1 sz0.2 hR hS, Option.bind_some, e2, e3]
  dsimp only
  by_cases q1 : (vIn R 0 (mf 2 - 1) && vIn S 0 (mf 3 - 1)) = true
  · have q1' := q1
    rw [Bool.and_eq_true] at q1'
    have bR := of_decide_eq_true q1'.1
    have bS := of_decide_eq_true q1'.2
    rw [if_pos (by rw [q1]; exact tb1), if_pos q1, if_pos m_isc, c_isCell hc ok.1, Option.bind_some]
    dsimp only
    by_cases q3 : vIn c 0 (ma 2 2 - 1) = true
    · have b1 := of_decide_eq_true q3
      obtain ⟨k, rfl⟩ : ∃ k : Nat, c = k := ⟨c.toNat, by omega⟩
      have bw := ok.2.2.2.2.2 k (by omega) (by omega)
      rw [if_pos (by rw [q3]; exact tb1), if_pos q3, if_pos m_isc, c_isFixed (by omega) ok.1, Option.bind_some, Int.toNat_natCast, eq_X9_fix_54, no4]
      dsimp only
      by_cases q4 : sFix (ma 2) k = true
      · rw [if_pos (by rw [q4]; exact tb1), q4]
        rfl
      · have q4' : sFix (ma 2) k = false := by simpa using q4
        have cl := c_lawOk (N := N) (h := h) (a := a) (mf := mF mf 0 0) (ma := ma) (c := k) (R := R) (S := S) (fx := true) hN ok sz0 (by omega) hR hS
        rw [show (if true = true then iI 1 else iI 0) = iI 1 from rfl, e2, e3] at cl
        rw [if_neg (by rw [q4']; simp), q4', if_pos m_isc, cl, Option.bind_some, Bool.not_false, Bool.true_and, eq_X9_fix_54, no4]
        dsimp only
        by_cases q5 : sLaw (mf 2) (mf 3) (ma 2) k R S true = true
        · rw [if_pos (by rw [q5]; exact tb1), if_pos q5, if_pos m_isc, c_rem0 hN h9, Option.bind_some]
          generalize hm1 : mF (mF mf 0 0) 9 (if mf 9 = 12 then 12 else mf 9 + 1) = mf1
          obtain ⟨e, he⟩ : ∃ e : Nat, ma 2 (36 + 7 * k) = e := ⟨(ma 2 (36 + 7 * k)).toNat, by omega⟩
          have key := fix_up (B := cm_X9_fix_73 N) (R := some (iI (nFx (ma 2) k R S e), mH h a (mF mf1 1 0) (mA (mRem mf ma 6) 2 (rFixed (rFx (ma 2) k R S e) k R S)))) (fun i => [some (.ref a), some (.int (iI k)), some (.int (iI R)), some (.int (iI S)), some (.int (iI (nFx (ma 2) k R S i))), some (.int (iI (S + i)))]) (fun i => mH h a mf1 (mA (mRem mf ma 6) 2 (rFx (ma 2) k R S i))) e ?_ ?_ N 0 (by omega) (by omega)
          · simp only [Int.natCast_zero, Int.add_zero, rFx, nFx] at key
            rw [show mA (mRem mf ma 6) 2 (ma 2) = mRem mf ma 6 by rw [← mRem_2 mf ma 6, mA_self]] at key
            rw [key, he, ← hm1]
            rfl
          · intro K
            obtain ⟨o1, o2⟩ := rFx_ok (c := k) (R := R) (S := S) ok e
            have o3 := (o2 k (by omega)).2
            have cw := c_width (N := N) (h := h) (a := a) (mf := mf1) (ma := mA (mRem mf ma 6) 2 (rFx (ma 2) k R S e)) (c := k) (by omega) (by omega)
            rw [mA_2, o3, he] at cw
            rw [eq_X9_fix_73, if_pos m_isc, cw, Option.bind_some, iI_add, if_pos ((iI_le ⟨by omega, by omega⟩ ⟨by omega, by omega⟩).mpr (Int.le_refl _)), if_pos m_isc, c_give (by omega) (by omega), Option.bind_some, mA_2, mA_mA, c_cellAt, Option.bind_some]
            dsimp only
            rw [m_r6, Option.bind_some, iI_add, m_s6 (by omega) (by omega), Option.bind_some, mU_mA, mA_2, mA_mA, m_r6, Option.bind_some, iI_add, iI_mul, m_s6 (by omega) (by omega), Option.bind_some, mU_mA, mA_2, mA_mA, m_r6, Option.bind_some, iI_add, iI_mul, m_s6 (by omega) (by omega), Option.bind_some, mU_mA, mA_2, mA_mA, eq_X9_fix_166, if_pos m_isc, c_tell, Option.bind_some]
            rfl
          · intro K i hi
            obtain ⟨o1, o2⟩ := rFx_ok (c := k) (R := R) (S := S) ok i
            have o3 := (o2 k (by omega)).2
            have o4 := o1.2.2.2.1
            generalize hr : rFx (ma 2) k R S i = r at o1 o2 o3 o4
            have cw := c_width (N := N) (h := h) (a := a) (mf := mf1) (ma := mA (mRem mf ma 6) 2 r) (c := k) (by omega) (by omega)
            rw [mA_2, o3, he] at cw
            have ct := c_cellThere (N := N) (h := h) (a := a) (mf := mf1) (ma := mA (mRem mf ma 6) 2 r) (R := R) (S := S + i) (but := k) (fx := false) hN (by rw [mA_2]; exact o1.1) (by rw [mA_2]; exact o4) (by omega) (by omega) (by omega)
            rw [mA_2, show (if false = true then iI 1 else iI 0) = iI 0 from rfl] at ct
            have bt := sCel_b r R (S + i) k false o4.2
            have ei : S + ((i + 1 : Nat) : Int) = S + (i : Int) + 1 := by omega
            rw [eq_X9_fix_73, if_pos m_isc, cw, Option.bind_some, iI_add, if_neg (fun q => by have := (iI_le ⟨by omega, by omega⟩ ⟨by omega, by omega⟩).mp q; omega), if_pos m_isc, ct, Option.bind_some, rFx, nFx, hr, ei]
            dsimp only
            by_cases q : sCel r R (S + i) k false = -1
            · rw [if_pos (by rw [q]), if_pos q, if_pos q, eq_X9_fix_111, iI_add]
            · rw [if_neg (by rw [iI_eq ⟨by omega, by omega⟩ ⟨by omega, by omega⟩]; exact q), if_neg q, if_neg q, if_pos m_isc, c_lose (by omega) (by omega), Option.bind_some, eq_X9_fix_111, iI_add, iI_add, mA_2, mA_mA]
        · rw [if_neg (by simp [q5]), if_neg q5]
    · rw [if_neg (by simp [q3]), if_neg q3, no2]
  · rw [if_neg (by rw [iI_zb]; simpa using q1), if_neg q1, no1]
theorem c_put {c R S : Int} (hN : 5000 ≤ N) (ok : rOk (ma 2)) (nk : nOk (ma 2)) (sz : mSz mf) (h9 : 0 ≤ mf 9 ∧ mf 9 ≤ 12) (hc : -2147483648 ≤ c ∧ c < 2147483648) (hR : -2147483648 ≤ R ∧ R < 2147483648) (hS : -2147483648 ≤ S ∧ S < 2147483648) :
    fm_X9_put N [.ref a, .int (iI c), .int (iI R), .int (iI S)] (mH h a mf ma) =
      if (vIn R 0 (mf 2 - 1) && vIn S 0 (mf 3 - 1)) = true then
        (if vIn c 0 (ma 2 2 - 1) = true then
          (if (!sFix (ma 2) c.toNat && sLaw (mf 2) (mf 3) (ma 2) c.toNat R S false) = true then some (iI (sWire (ma 1 4) (rGive (ma 2) c R S)), mYes h a mf ma 8 (rGive (ma 2) c R S)) else some (iI (-4), mNo h a mf ma (-4)))
        else some (iI (-2), mNo h a mf ma (-2)))
      else some (iI (-1), mNo h a mf ma (-1)) := by
  have g2 := ok.2.2.2.1
  have sz0 : mSz (mF mf 0 0) := sz
  have hs1 := sz.1
  have hs2 := sz.2
  have no1 := c_no (N := N) (h := h) (a := a) (mf := mf) (ma := ma) (v := -1) (by omega)
  have no2 := c_no (N := N) (h := h) (a := a) (mf := mf) (ma := ma) (v := -2) (by omega)
  have no4 := c_no (N := N) (h := h) (a := a) (mf := mf) (ma := ma) (v := -4) (by omega)
  have e2 : mF mf 0 0 2 = mf 2 := rfl
  have e3 : mF mf 0 0 3 = mf 3 := rfl
  rw [en_X9_put, eq_X9_put_0, m_p0, Option.bind_some, if_pos m_isc, c_isSite sz0.1 sz0.2 hR hS, Option.bind_some, e2, e3]
  dsimp only
  by_cases q1 : (vIn R 0 (mf 2 - 1) && vIn S 0 (mf 3 - 1)) = true
  · have q1' := q1
    rw [Bool.and_eq_true] at q1'
    have bR := of_decide_eq_true q1'.1
    have bS := of_decide_eq_true q1'.2
    rw [if_pos (by rw [q1]; exact tb1), if_pos q1, if_pos m_isc, c_isCell hc ok.1, Option.bind_some]
    dsimp only
    by_cases q3 : vIn c 0 (ma 2 2 - 1) = true
    · have b1 := of_decide_eq_true q3
      obtain ⟨k, rfl⟩ : ∃ k : Nat, c = k := ⟨c.toNat, by omega⟩
      rw [if_pos (by rw [q3]; exact tb1), if_pos q3, if_pos m_isc, c_isFixed (by omega) ok.1, Option.bind_some, Int.toNat_natCast, eq_X9_put_54, no4]
      dsimp only
      by_cases q4 : sFix (ma 2) k = true
      · rw [if_pos (by rw [q4]; exact tb1), q4]
        rfl
      · have q4' : sFix (ma 2) k = false := by simpa using q4
        have cl := c_lawOk (N := N) (h := h) (a := a) (mf := mF mf 0 0) (ma := ma) (c := k) (R := R) (S := S) (fx := false) hN ok sz0 (by omega) hR hS
        rw [show (if false = true then iI 1 else iI 0) = iI 0 from rfl, e2, e3] at cl
        rw [if_neg (by rw [q4']; simp), q4', if_pos m_isc, cl, Option.bind_some, Bool.not_false, Bool.true_and, eq_X9_put_54, no4]
        dsimp only
        by_cases q5 : sLaw (mf 2) (mf 3) (ma 2) k R S false = true
        · have okg := rOk_give (c := k) (R := R) (S := S) ok (by omega) (by omega) (by omega)
          have nkg := nOk_give (c := k) (R := R) (S := S) (by omega) (by omega) nk
          rw [if_pos (by rw [q5]; exact tb1), if_pos q5, if_pos m_isc, c_rem0 hN h9, Option.bind_some, if_pos m_isc, c_give (by omega) (by omega), Option.bind_some, mRem_2, if_pos m_isc, c_wire hN (by rw [mA_2]; exact okg) (by rw [mA_2]; exact nkg), Option.bind_some]
          dsimp only
          rw [if_pos m_isc, c_tell, Option.bind_some, mA_2, mA_n (by decide)]
          have e1 : mRem mf ma 8 1 = ma 1 := by
            unfold mRem
            split <;> rw [mA_n (by decide), mA_n (by decide)]
          rw [e1]
          rfl
        · rw [if_neg (by simp [q5]), if_neg q5]
    · rw [if_neg (by simp [q3]), if_neg q3, no2]
  · rw [if_neg (by rw [iI_zb]; simpa using q1), if_neg q1, no1]
end M22
