/-! ===== the model: copies, remember, undo ===== -/
section M4
variable {N : Nat} {h : ka_H} {a : Nat} {mf : Nat → Int} {ma : Nat → Int → Int}
/-- a stretch laid over an array -/
def rCp (f g : Int → Int) (s d n : Int) : Int → Int := fun j => if d ≤ j ∧ j < d + n then f (s + (j - d)) else g j
theorem rCp_0 (f g : Int → Int) (s d : Int) : rCp f g s d 0 = g := by
  funext j
  unfold rCp
  rw [if_neg (by omega)]
theorem rCp_s (f g : Int → Int) (s d n : Int) (h : 0 ≤ n) : rU (rCp f g s d n) (d + n) (f (s + n)) = rCp f g s d (n + 1) := by
  funext j
  unfold rU rCp
  by_cases e : j = d + n
  · rw [if_pos e, if_pos (by omega)]
    congr 1
    omega
  · rw [if_neg e]
    by_cases e2 : d ≤ j ∧ j < d + n
    · rw [if_pos e2, if_pos (by omega)]
    · rw [if_neg e2, if_neg (by omega)]
theorem c_copy {p q : Nat} {s d : Int} {qp qq : Nat} (hN : 5000 ≤ N) (hp : p < 25) (hq : q < 25) (hpq : p ≠ q) (ep : qp = a + 1 + p) (eq : qq = a + 1 + q) (hs : 0 ≤ s ∧ s + 400 ≤ mLen p) (hd : 0 ≤ d ∧ d + 400 ≤ mLen q) :
    fm_X9_copy N [.ref qp, .int (iI s), .ref qq, .int (iI d)] (mH h a mf ma) = some (mH h a mf (mA ma q (rCp (ma p) (ma q) s d 400))) := by
  have hb : ∀ p, mLen p ≤ 4800 := by
    intro p
    unfold mLen
    split <;> omega
  have hbp := hb p
  have hbq := hb q
  rw [en_X9_copy, eq_X9_copy_0]
  have key := fix_up (B := cm_X9_copy_3 N) (R := some (mH h a mf (mA ma q (rCp (ma p) (ma q) s d 400)))) (fun i => [some (.ref qp), some (.int (iI s)), some (.ref qq), some (.int (iI d)), some (.int (iI i))]) (fun i => mH h a mf (mA ma q (rCp (ma p) (ma q) s d i))) 400 ?_ ?_ N 0 (by omega) (by omega)
  · simp only [Int.natCast_zero, rCp_0, mA_self] at key
    exact key
  · intro K
    rw [eq_X9_copy_3, if_pos (by decide)]
    rfl
  · intro K i hi
    rw [eq_X9_copy_3, if_neg (fun z => absurd ((iI_le ⟨by omega, by omega⟩ ⟨by omega, by omega⟩).mp z) (by omega)), iI_add, m_ld ep hp (by omega) (by omega), Option.bind_some, iI_add, m_sd eq hq (by omega) (by omega), Option.bind_some, iI_add, mU_mA, mA_2, mA_mA, mA_n hpq, rCp_s _ _ _ _ _ (by omega)]
    have ei : ((i + 1 : Nat) : Int) = (i : Int) + 1 := by omega
    rw [ei]
/-- the undo states move down by one -/
theorem c_rem1 (hN : 5000 ≤ N) (w : Int) (R : Option ka_H) (hR : ki_fix (cm_X9_remember_42 N) N [some (.ref a), some (.int (iI w)), some (.int (iI 0))] [] (mH h a mf (mA ma 3 (rCp (ma 3) (ma 3) 400 0 4400))) = R) :
    ki_fix (cm_X9_remember_11 N) N [some (.ref a), some (.int (iI w)), some (.int (iI 0))] [] (mH h a mf ma) = R := by
  have key := fix_up (B := cm_X9_remember_11 N) (R := R) (fun i => [some (.ref a), some (.int (iI w)), some (.int (iI i))]) (fun i => mH h a mf (mA ma 3 (rCp (ma 3) (ma 3) 400 0 i))) 4400 ?_ ?_ N 0 (by omega) (by omega)
  · simp only [Int.natCast_zero, rCp_0, mA_self] at key
    exact key
  · intro K
    rw [eq_X9_remember_11, if_pos (by decide)]
    exact hR
  · intro K i hi
    rw [eq_X9_remember_11, if_neg (fun z => absurd ((iI_le ⟨by omega, by omega⟩ ⟨by omega, by omega⟩).mp z) (by omega)), m_r7, Option.bind_some, Option.bind_some, iI_add, m_l7 (by omega) (by omega), Option.bind_some, m_s7 (by omega) (by omega), Option.bind_some, iI_add, mU_mA, mA_2, mA_mA]
    have ei : ((i + 1 : Nat) : Int) = (i : Int) + 1 := by omega
    have e2 : rCp (ma 3) (ma 3) 400 0 i (i + 400) = ma 3 (400 + i) := by
      unfold rCp
      rw [if_neg (by omega)]
      congr 1
      omega
    have e3 := rCp_s (ma 3) (ma 3) 400 0 i (by omega)
    rw [Int.zero_add] at e3
    rw [e2, e3, ei]
theorem c_rem2 (hN : 5000 ≤ N) (w : Int) (R : Option ka_H) (hR : cm_X9_remember_78 N [some (.ref a), some (.int (iI w))] [] (mH h a (mF mf 9 (mf 9 - 1)) (mA ma 4 (rCp (ma 4) (ma 4) 1 0 11))) = R) :
    ki_fix (cm_X9_remember_42 N) N [some (.ref a), some (.int (iI w)), some (.int (iI 0))] [] (mH h a mf ma) = R := by
  have key := fix_up (B := cm_X9_remember_42 N) (R := R) (fun i => [some (.ref a), some (.int (iI w)), some (.int (iI i))]) (fun i => mH h a mf (mA ma 4 (rCp (ma 4) (ma 4) 1 0 i))) 11 ?_ ?_ N 0 (by omega) (by omega)
  · simp only [Int.natCast_zero, rCp_0, mA_self] at key
    exact key
  · intro K
    rw [eq_X9_remember_42, if_pos (by decide), m_g9, Option.bind_some, iI_sub, m_p9, Option.bind_some]
    exact hR
  · intro K i hi
    rw [eq_X9_remember_42, if_neg (fun z => absurd ((iI_le ⟨by omega, by omega⟩ ⟨by omega, by omega⟩).mp z) (by omega)), m_r8, Option.bind_some, Option.bind_some, iI_add, m_l8 (by omega) (by omega), Option.bind_some, m_s8 (by omega) (by omega), Option.bind_some, mU_mA, mA_2, mA_mA]
    have ei : ((i + 1 : Nat) : Int) = (i : Int) + 1 := by omega
    have e2 : rCp (ma 4) (ma 4) 1 0 i (i + 1) = ma 4 (1 + i) := by
      unfold rCp
      rw [if_neg (by omega)]
      congr 1
      omega
    have e3 := rCp_s (ma 4) (ma 4) 1 0 i (by omega)
    rw [Int.zero_add] at e3
    rw [e2, e3, ei]
/-- the arrays behind remember -/
def mRem (mf : Nat → Int) (ma : Nat → Int → Int) (w : Int) : Nat → Int → Int :=
  if mf 9 = 12 then mA (mA ma 3 (rCp (ma 2) (rCp (ma 3) (ma 3) 400 0 4400) 0 4400 400)) 4 (rU (rCp (ma 4) (ma 4) 1 0 11) 11 w)
  else mA (mA ma 3 (rCp (ma 2) (ma 3) 0 (400 * mf 9) 400)) 4 (rU (ma 4) (mf 9) w)
theorem c_rem78 {w : Int} (hN : 5000 ≤ N) (h9 : 0 ≤ mf 9 ∧ mf 9 ≤ 11) : cm_X9_remember_78 N [some (.ref a), some (.int (iI w))] [] (mH h a mf ma) = some (mH h a (mF mf 9 (mf 9 + 1)) (mA (mA ma 3 (rCp (ma 2) (ma 3) 0 (400 * mf 9) 400)) 4 (rU (ma 4) (mf 9) w))) := by
  rw [eq_X9_remember_78, m_r6, Option.bind_some, m_r7, Option.bind_some, m_g9, Option.bind_some, iI_mul, c_copy (p := 2) (q := 3) hN (by decide) (by decide) (by decide) (by omega) (by omega) (by simp [mLen]) (by simp [mLen]; omega), Option.bind_some, m_r8, Option.bind_some, m_g9, Option.bind_some, m_s8 (by omega) (by omega), Option.bind_some, m_g9, Option.bind_some, iI_add, m_p9, Option.bind_some, mU_mA, mA_n (by decide)]
theorem c_remember {w : Int} (hN : 5000 ≤ N) (h9 : 0 ≤ mf 9 ∧ mf 9 ≤ 12) : fm_X9_remember N [.ref a, .int (iI w)] (mH h a mf ma) = some (mH h a (mF mf 9 (if mf 9 = 12 then 12 else mf 9 + 1)) (mRem mf ma w)) := by
  rw [en_X9_remember, eq_X9_remember_0, m_g9, Option.bind_some]
  simp (disch := omega) only [iI_eqD]
  by_cases q : mf 9 = 12
  · rw [if_neg (fun z => z q)]
    refine c_rem1 hN w _ (c_rem2 hN w _ ?_)
    rw [c_rem78 hN (by rw [mF_s]; omega)]
    simp only [mF_s, mRem, if_pos q, mA_n (show (4 : Nat) ≠ 3 by decide), mA_n (show (3 : Nat) ≠ 4 by decide), mA_n (show (2 : Nat) ≠ 4 by decide), mA_n (show (2 : Nat) ≠ 3 by decide), mA_2]
    rw [q]
    congr 2
    · funext j
      by_cases e : j = 9 <;> simp [mF, e]
    · funext x
      by_cases e3 : x = 3
      · subst e3; simp [mA]
      · by_cases e4 : x = 4
        · subst e4; simp [mA]
        · simp [mA, e3, e4]
  · rw [if_pos q, c_rem78 hN (by omega)]
    simp only [mRem, if_neg q]
end M4
