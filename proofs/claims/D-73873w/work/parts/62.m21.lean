/-! ===== the model: pins of the tape, nets ===== -/
theorem mF_c {mf : Nat → Int} {k j : Nat} {x y : Int} (h : k ≠ j) : mF (mF mf k x) j y = mF (mF mf j y) k x := by
  funext i
  unfold mF
  by_cases e : i = k
  · by_cases e2 : i = j
    · omega
    · simp [e, h]
  · simp [e]
theorem tmod_nn {x : Int} (h : 0 ≤ x) (k : Int) : x.tmod k = x % k := Int.tmod_eq_emod_of_nonneg h
theorem tdiv_nn {x : Int} (h : 0 ≤ x) (k : Int) : x.tdiv k = x / k := Int.tdiv_eq_ediv_of_nonneg h
def sTn (t : Int → Int) (p j : Nat) : Bool := decide (¬ t (2 * j) = t (2 * p))
def tOk (t : Int → Int) : Prop := ∀ k, 0 ≤ t k ∧ t k ≤ 255
/-- whether a pair of the tape tells a pin -/
def sTp (rows sites : Int) (r t : Int → Int) (p : Nat) : Bool :=
  if 200 ≤ t (2 * p) then (vIn (t (2 * p) - 200) 0 (rows - 1) && vIn (t (2 * p + 1)) 0 (sites - 1))
  else (vIn (t (2 * p)) 0 (r 2 - 1) && decide (t (2 * p + 1) < r (36 + 7 * t (2 * p)))) && aW (sTn t p) p
section M21
variable {N : Nat} {h : ka_H} {a : Nat} {mf : Nat → Int} {ma : Nat → Int → Int}
theorem c_isPin56 {p : Nat} (hN : 5000 ≤ N) (tk : tOk (ma 7)) (hp : p < 50) (b : Bool) : cm_X9_isPin_56 N [some (.ref a), some (.int (iI (2 * p))), some (.int (iI (ma 7 (2 * p)))), some (.int (iI (ma 7 (2 * p + 1))))] [.int (if b = true then iI 1 else iI 0)] (mH h a mf ma) = some (b && aW (sTn (ma 7) p) p, mH h a mf ma) := by
  have b0 := tk (2 * p)
  rw [eq_X9_isPin_56]
  have key := fix_up (B := cm_X9_isPin_61 N) (R := some (b && aW (sTn (ma 7) p) p, mH h a mf ma)) (fun i => [some (.ref a), some (.int (iI (2 * p))), some (.int (iI (ma 7 (2 * p)))), some (.int (iI (ma 7 (2 * p + 1)))), some (.int (if (b && aW (sTn (ma 7) p) i) = true then iI 1 else iI 0)), some (.int (iI (2 * i)))]) (fun _ => mH h a mf ma) p ?_ ?_ N 0 (by omega) (by omega)
  · simp only [aW, Bool.and_true, Int.natCast_zero, Int.mul_zero] at key
    exact key
  · intro K
    rw [eq_X9_isPin_61, if_pos ((iI_le ⟨by omega, by omega⟩ ⟨by omega, by omega⟩).mpr (Int.le_refl _)), bo_id]
  · intro K i hi
    have b2 := tk (2 * i)
    have ei : 2 * ((i + 1 : Nat) : Int) = 2 * (i : Int) + 2 := by omega
    rw [eq_X9_isPin_61, if_neg (fun q => by have := (iI_le ⟨by omega, by omega⟩ ⟨by omega, by omega⟩).mp q; omega)]
    simp (disch := omega) only [m_r12, m_l12, Option.bind_some, iI_zb, iI_eqD, iI_add, eq_X9_isPin_87, eq_X9_isPin_88, ei, aW, sTn]
    by_cases q1 : b = true <;> by_cases q2 : aW (sTn (ma 7) p) i = true <;> by_cases q3 : ma 7 (2 * i) = ma 7 (2 * p) <;> simp [q1, q2, q3]
theorem c_isPin {p : Nat} (hN : 5000 ≤ N) (ok : rOk (ma 2)) (sz : mSz mf) (tk : tOk (ma 7)) (hp : p < 50) : fm_X9_isPin N [.ref a, .int (iI (2 * p))] (mH h a mf ma) = some (sTp (mf 2) (mf 3) (ma 2) (ma 7) p, mH h a mf ma) := by
  have b0 := tk (2 * p)
  have b1 := tk (2 * p + 1)
  have g2 := ok.2.2.2.1
  have l1 := c_isPin56 (N := N) (h := h) (a := a) (mf := mf) (ma := ma) hN tk hp true
  have l0 := c_isPin56 (N := N) (h := h) (a := a) (mf := mf) (ma := ma) hN tk hp false
  rw [show (if true = true then iI 1 else iI 0) = iI 1 from rfl] at l1
  rw [show (if false = true then iI 1 else iI 0) = iI 0 from rfl] at l0
  rw [en_X9_isPin, eq_X9_isPin_0, m_r12, Option.bind_some, m_l12 (by omega) (by omega), Option.bind_some, Option.bind_some, iI_add, m_l12 (by omega) (by omega), Option.bind_some]
  unfold sTp
  by_cases q : 200 ≤ ma 7 (2 * p)
  · rw [if_pos q, if_neg (fun z => by have := (iI_lt ⟨by omega, by omega⟩ ⟨by omega, by omega⟩).mp z; omega), if_pos m_isc, iI_sub, c_isSite sz.1 sz.2 (by omega) (by omega), Option.bind_some, bo_id]
  · rw [if_neg q, if_pos ((iI_lt ⟨by omega, by omega⟩ ⟨by omega, by omega⟩).mpr (by omega)), if_pos m_isc, c_isCell (by omega) ok.1, Option.bind_some]
    dsimp only
    by_cases q1 : vIn (ma 7 (2 * p)) 0 (ma 2 2 - 1) = true
    · have q2 := of_decide_eq_true q1
      have bw := ok.2.2.2.2.2 (ma 7 (2 * p)) (by omega) (by omega)
      rw [if_neg (by rw [q1]; exact tb1), if_pos m_isc, c_width (by omega) (by omega), Option.bind_some, q1, Bool.true_and]
      dsimp only
      by_cases q3 : ma 7 (2 * p + 1) < ma 2 (36 + 7 * ma 7 (2 * p))
      · rw [if_neg (fun z => by have := (iI_le ⟨by omega, by omega⟩ ⟨by omega, by omega⟩).mp z; omega), l1, decide_eq_true q3]
      · rw [if_pos ((iI_le ⟨by omega, by omega⟩ ⟨by omega, by omega⟩).mpr (by omega)), eq_X9_isPin_55, l0, decide_eq_false q3]
    · have q1' : vIn (ma 7 (2 * p)) 0 (ma 2 2 - 1) = false := by simpa using q1
      rw [if_pos (by rw [q1']; rfl), eq_X9_isPin_55, l0, q1']
      rfl
def sTape (rows sites : Int) (r t : Int → Int) (m : Int) : Bool := (decide (m % 2 = 0) && vIn m 4 12) && aW (sTp rows sites r t) (m / 2).toNat
def rNet0 (r t : Int → Int) (w m : Int) : Int → Int := rU (rU r (176 + 14 * r 3) w) (176 + 14 * r 3 + 1) (m / 2)
def rNet (r t : Int → Int) (w m : Int) : Int → Int := rU (rCp t (rNet0 r t w m) 0 (176 + 14 * r 3 + 2) m) 3 (r 3 + 1)
theorem c_net1 {w l5 : Int} (hN : 5000 ≤ N) (ok : rOk (ma 2)) (h9 : 0 ≤ mf 9 ∧ mf 9 ≤ 12) (m : Nat) (hm : m ≤ 12) (hn : ma 2 3 < 16) :
    cm_X9_net_108 N [some (.ref a), some (.int (iI w)), some (.int (iI (ma 2 3))), some (.int (iI m)), some (.int (iI 1)), some (.int (iI l5))] [] (mH h a (mF mf 0 0) ma) = some (iI (ma 2 3), mYes h a mf ma 3 (rNet (ma 2) (ma 7) w m)) := by
  have g3 := ok.2.2.2.2.1
  rw [eq_X9_net_108, if_pos (by decide), if_pos m_isc, c_rem0 hN h9, Option.bind_some, m_r6, Option.bind_some, c_netAt, Option.bind_some]
  dsimp only
  rw [m_s6 (by omega) (by omega), Option.bind_some, mU_mA, mRem_2, m_r6, Option.bind_some, c_netAt, Option.bind_some]
  dsimp only
  rw [if_neg (by decide), iI_add, iI_div ⟨by omega, by omega⟩ ⟨by decide, by decide⟩ (by omega), tdiv_nn (by omega), m_s6 (by omega) (by omega), Option.bind_some, mU_mA, mA_2, mA_mA]
  have e7 : ∀ f, mA (mRem mf ma 3) 2 f 7 = ma 7 := by
    intro f
    rw [mA_n (by decide)]
    unfold mRem
    split <;> rw [mA_n (by decide), mA_n (by decide)]
  generalize hm1 : mF (mF mf 0 0) 9 (if mf 9 = 12 then 12 else mf 9 + 1) = mf1
  have key := fix_up (B := cm_X9_net_152 N) (R := some (iI (ma 2 3), mH h a (mF mf1 1 0) (mA (mRem mf ma 3) 2 (rNet (ma 2) (ma 7) w m)))) (fun i => [some (.ref a), some (.int (iI w)), some (.int (iI (ma 2 3))), some (.int (iI m)), some (.int (iI 1)), some (.int (iI i))]) (fun i => mH h a mf1 (mA (mRem mf ma 3) 2 (rCp (ma 7) (rNet0 (ma 2) (ma 7) w m) 0 (176 + 14 * ma 2 3 + 2) i))) m ?_ ?_ N 0 (by omega) (by omega)
  · simp only [Int.natCast_zero, rCp_0] at key
    refine Eq.trans key ?_
    rw [← hm1]
    rfl
  · intro K
    rw [eq_X9_net_152, if_pos ((iI_le ⟨by omega, by omega⟩ ⟨by omega, by omega⟩).mpr (Int.le_refl _)), m_r6, Option.bind_some, m_l6 (by omega) (by omega), Option.bind_some, iI_add, m_s6 (by omega) (by omega), Option.bind_some, mU_mA, mA_2, mA_mA, if_pos m_isc, c_tell, Option.bind_some]
    have e3 : rCp (ma 7) (rNet0 (ma 2) (ma 7) w m) 0 (176 + 14 * ma 2 3 + 2) m 3 = ma 2 3 := by
      unfold rCp rNet0
      rw [if_neg (by omega), rU_n (by omega), rU_n (by omega)]
    rw [e3]
    rfl
  · intro K i hi
    have ei : ((i + 1 : Nat) : Int) = (i : Int) + 1 := by omega
    rw [eq_X9_net_152, if_neg (fun q => by have := (iI_le ⟨by omega, by omega⟩ ⟨by omega, by omega⟩).mp q; omega), m_r6, Option.bind_some, c_netAt, Option.bind_some]
    dsimp only
    have es := rCp_s (ma 7) (rNet0 (ma 2) (ma 7) w m) 0 (176 + 14 * ma 2 3 + 2) i (by omega)
    rw [Int.zero_add] at es
    rw [m_r12, Option.bind_some, m_l12 (by omega) (by omega), Option.bind_some, iI_add, iI_add, m_s6 (by omega) (by omega), Option.bind_some, mU_mA, mA_2, mA_mA, e7, es, iI_add, ei]
theorem c_net0 {w l2 l3 l5 : Int} : cm_X9_net_108 N [some (.ref a), some (.int (iI w)), some (.int (iI l2)), some (.int (iI l3)), some (.int (iI 0)), some (.int (iI l5))] [] (mH h a (mF mf 0 0) ma) = some (iI (-6), mNo h a mf ma (-6)) := by
  have no6 := c_no (N := N) (h := h) (a := a) (mf := mf) (ma := ma) (v := -6) (by omega)
  rw [eq_X9_net_108, if_neg (fun z => z rfl), no6]
theorem c_net {w : Int} (hN : 5000 ≤ N) (ok : rOk (ma 2)) (sz : mSz mf) (tk : tOk (ma 7)) (h9 : 0 ≤ mf 9 ∧ mf 9 ≤ 12) (h13 : 0 ≤ mf 13 ∧ mf 13 ≤ 100) (hw : -2147483648 ≤ w ∧ w < 2147483648) :
    fm_X9_net N [.ref a, .int (iI w)] (mH h a mf ma) =
      if vIn w 1 9 = true then
        (if ma 2 3 = 16 then some (iI (-5), mNo h a mf ma (-5))
        else if sTape (mf 2) (mf 3) (ma 2) (ma 7) (mf 13) = true then some (iI (ma 2 3), mYes h a (mF mf 13 0) ma 3 (rNet (ma 2) (ma 7) w (mf 13)))
        else some (iI (-6), mNo h a (mF mf 13 0) ma (-6)))
      else some (iI (-1), mNo h a mf ma (-1)) := by
  have g3 := ok.2.2.2.2.1
  have no1 := c_no (N := N) (h := h) (a := a) (mf := mf) (ma := ma) (v := -1) (by omega)
  have no5 := c_no (N := N) (h := h) (a := a) (mf := mf) (ma := ma) (v := -5) (by omega)
  rw [en_X9_net, eq_X9_net_0, m_p0, Option.bind_some, iI_long hw.1 hw.2, c_in (by omega) (by omega) (by omega) (by omega) (by omega) (by omega), Option.bind_some]
  dsimp only
  by_cases q1 : vIn w 1 9 = true
  · rw [if_pos (by rw [q1]; exact tb1), if_pos q1, m_r6, Option.bind_some, m_l6 (by omega) (by omega), Option.bind_some]
    by_cases q4 : ma 2 3 = 16
    · rw [if_neg (by rw [q4]; exact fun z => z rfl), if_pos q4, no5]
    · rw [if_pos (by rw [iI_eq ⟨by omega, by omega⟩ ⟨by omega, by omega⟩]; exact q4), if_neg q4, m_g13, Option.bind_some, m_p13, Option.bind_some, mF_n (by decide), if_neg (by decide), mF_c (by decide)]
      obtain ⟨m, hm⟩ : ∃ m : Nat, mf 13 = m := ⟨(mf 13).toNat, by omega⟩
      rw [hm, iI_rem ⟨by omega, by omega⟩ ⟨by decide, by decide⟩ (by omega), tmod_nn (by omega)]
      generalize hm1 : mF mf 13 0 = mf1
      have sz1 : mSz mf1 := by rw [← hm1]; exact sz
      have z9 : 0 ≤ mf1 9 ∧ mf1 9 ≤ 12 := by rw [← hm1, mF_n (by decide)]; exact h9
      have e2 : mf1 2 = mf 2 := by rw [← hm1]; rfl
      have e3 : mf1 3 = mf 3 := by rw [← hm1]; rfl
      unfold sTape
      have stop : ki_fix (cm_X9_net_83 N) N [some (.ref a), some (.int (iI w)), some (.int (iI (ma 2 3))), some (.int (iI m)), some (.int (iI 0)), some (.int (iI 0))] [] (mH h a (mF mf1 0 0) ma) = some (iI (-6), mNo h a mf1 ma (-6)) := by
        have no6 := c_net0 (N := N) (h := h) (a := a) (mf := mf1) (ma := ma) (w := w) (l2 := ma 2 3) (l3 := m) (l5 := 0)
        obtain ⟨n, rfl⟩ : ∃ n, N = n + 1 := ⟨N - 1, by omega⟩
        conv => lhs; rw [ki_fix_s]
        rw [eq_X9_net_83, if_pos rfl, no6, ite_self]
      by_cases q5 : (m : Int) % 2 = 0
      · rw [if_neg (fun z => z (by rw [q5])), iI_long (by omega) (by omega), c_in (by omega) (by omega) (by omega) (by omega) (by omega) (by omega), Option.bind_some, decide_eq_true q5, Bool.true_and]
        dsimp only
        by_cases q6 : vIn m 4 12 = true
        · have b6 := of_decide_eq_true q6
          rw [if_neg (by rw [q6]; exact tb1), q6, Bool.true_and, eq_X9_net_78]
          obtain ⟨e, he⟩ : ∃ e : Nat, m = 2 * e := ⟨m / 2, by omega⟩
          have ee : ((m : Int) / 2).toNat = e := by omega
          rw [ee]
          have key := fix_aW (B := cm_X9_net_83 N) (r0 := some (iI (-6), mNo h a mf1 ma (-6))) (r1 := some (iI (ma 2 3), mYes h a mf1 ma 3 (rNet (ma 2) (ma 7) w m))) (fun b i => [some (.ref a), some (.int (iI w)), some (.int (iI (ma 2 3))), some (.int (iI m)), some (.int (if b = true then iI 1 else iI 0)), some (.int (iI (2 * i)))]) (mH h a (mF mf1 0 0) ma) (sTp (mf 2) (mf 3) (ma 2) (ma 7)) e ?_ ?_ ?_ N 0 (by omega) (by omega)
          · simp only [aW, Int.natCast_zero, Int.mul_zero, ↓reduceIte] at key
            exact key
          · intro K b
            rw [eq_X9_net_83, if_pos ((iI_le ⟨by omega, by omega⟩ ⟨by omega, by omega⟩).mpr (by omega))]
            by_cases q : b = true
            · rw [if_pos q, if_pos q, c_net1 hN ok z9 m (by omega) (by omega)]
            · rw [if_neg q, if_neg q, c_net0]
          · intro K i hi
            rw [eq_X9_net_83, if_neg (c := false = true) (by decide), if_pos rfl, c_net0, ite_self]
          · intro K i hi
            have ei : 2 * ((i + 1 : Nat) : Int) = 2 * (i : Int) + 2 := by omega
            have cp := c_isPin (N := N) (h := h) (a := a) (mf := mF mf1 0 0) (ma := ma) (p := i) hN ok sz1 tk (by omega)
            rw [eq_X9_net_83, if_neg (fun q => by have := (iI_le ⟨by omega, by omega⟩ ⟨by omega, by omega⟩).mp q; omega), if_pos (c := true = true) rfl, if_neg (by decide), if_pos m_isc, cp, Option.bind_some, iI_add, ei]
            show K [some (.ref a), some (.int (iI w)), some (.int (iI (ma 2 3))), some (.int (iI m)), some (.int (if sTp (mf1 2) (mf1 3) (ma 2) (ma 7) i = true then iI 1 else iI 0)), some (.int (iI (2 * i + 2)))] [] _ = _
            rw [e2, e3]
        · rw [if_pos (by simp [q6]), eq_X9_net_77, eq_X9_net_78, stop]
          simp [q6]
      · rw [if_pos (by rw [iI_eq ⟨by omega, by omega⟩ ⟨by omega, by omega⟩]; exact q5), eq_X9_net_77, eq_X9_net_78, stop, decide_eq_false q5]
        rfl
  · rw [if_neg (by simp [q1]), if_neg q1, no1]
end M21
