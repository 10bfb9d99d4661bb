/-! ===== the model: undo, lawful, spots lost ===== -/
/-- what the row's numbers keep, first part: sizes and widths -/
def rOk (r : Int → Int) : Prop := rB r ∧ (0 ≤ r 0 ∧ r 0 ≤ 4) ∧ (0 ≤ r 1 ∧ r 1 ≤ 3) ∧ (0 ≤ r 2 ∧ r 2 ≤ 20) ∧ (0 ≤ r 3 ∧ r 3 ≤ 16) ∧ ∀ c : Int, 0 ≤ c → c < r 2 → 1 ≤ r (36 + 7 * c) ∧ r (36 + 7 * c) ≤ 6
/-- the sizes of the chip -/
def mSz (mf : Nat → Int) : Prop := (1 ≤ mf 2 ∧ mf 2 ≤ 8) ∧ (8 ≤ mf 3 ∧ mf 3 ≤ 32)
theorem rU_s (r : Int → Int) (i x : Int) : rU r i x i = x := by simp [rU]
theorem rU_n {r : Int → Int} {i j x : Int} (h : j ≠ i) : rU r i x j = r j := by simp [rU, h]
theorem rGive_row (r : Int → Int) (c R S : Int) : rGive r c R S (36 + 7 * c + 5) = R := by
  unfold rGive
  rw [rU_n (by omega), rU_s]
theorem rGive_site (r : Int → Int) (c R S : Int) : rGive r c R S (36 + 7 * c + 6) = S := by
  unfold rGive
  rw [rU_s]
theorem rGive_n {r : Int → Int} {c R S j : Int} (h1 : j ≠ 36 + 7 * c + 5) (h2 : j ≠ 36 + 7 * c + 6) : rGive r c R S j = r j := by
  unfold rGive
  rw [rU_n h2, rU_n h1]
theorem rB_rU {r : Int → Int} {i x : Int} (h : rB r) (hx : -1 ≤ x ∧ x ≤ 600) : rB (rU r i x) := by
  intro j
  unfold rU
  split
  · exact hx
  · exact h j
theorem rOk_give {r : Int → Int} {c R S : Int} (h : rOk r) (hc : 0 ≤ c) (hR : -1 ≤ R ∧ R ≤ 600) (hS : -1 ≤ S ∧ S ≤ 600) : rOk (rGive r c R S) := by
  obtain ⟨h1, h2, h3, h4, h5, h6⟩ := h
  refine ⟨rB_rU (rB_rU h1 hR) hS, ?_, ?_, ?_, ?_, ?_⟩
  · rw [rGive_n (by omega) (by omega)]; exact h2
  · rw [rGive_n (by omega) (by omega)]; exact h3
  · rw [rGive_n (by omega) (by omega)]; exact h4
  · rw [rGive_n (by omega) (by omega)]; exact h5
  · intro d h0 hd
    rw [rGive_n (by omega) (by omega)] at hd
    rw [rGive_n (by omega) (by omega)]
    exact h6 d h0 hd
section M5
variable {N : Nat} {h : ka_H} {a : Nat} {mf : Nat → Int} {ma : Nat → Int → Int}
theorem c_lawOk {c : Nat} {R S : Int} {fx : Bool} (hN : 5000 ≤ N) (ok : rOk (ma 2)) (sz : mSz mf) (hc : (c : Int) < ma 2 2) (hR : -2147483648 ≤ R ∧ R < 2147483648) (hS : -2147483648 ≤ S ∧ S < 2147483648) : fm_X9_isLawful N [.ref a, .int (iI c), .int (iI R), .int (iI S), .int (if fx = true then iI 1 else iI 0)] (mH h a mf ma) = some (sLaw (mf 2) (mf 3) (ma 2) c R S fx, mH h a mf ma) := by
  obtain ⟨h1, h2, h3, h4, h5, h6⟩ := ok
  exact c_isLawful hN h1 sz.1 sz.2 h2 h3 h4 (by omega) (h6 c (by omega) hc) hR hS
theorem c_lawful {c R S : Int} (hN : 5000 ≤ N) (ok : rOk (ma 2)) (sz : mSz mf) (hc : -2147483648 ≤ c ∧ c < 2147483648) (hR : -2147483648 ≤ R ∧ R < 2147483648) (hS : -2147483648 ≤ S ∧ S < 2147483648) : fm_X9_lawful N [.ref a, .int (iI c), .int (iI R), .int (iI S)] (mH h a mf ma) = some (vIn c 0 (ma 2 2 - 1) && sLaw (mf 2) (mf 3) (ma 2) c.toNat R S false, mH h a (mF mf 0 0) ma) := by
  rw [en_X9_lawful, eq_X9_lawful_0, m_p0, Option.bind_some, if_pos m_isc, c_isCell hc ok.1, Option.bind_some, eq_X9_lawful_28, eq_X9_lawful_29, if_pos rfl]
  by_cases q : vIn c 0 (ma 2 2 - 1) = true
  · have q2 := of_decide_eq_true q
    obtain ⟨k, rfl⟩ : ∃ k : Nat, c = k := ⟨c.toNat, by omega⟩
    have cl := c_lawOk (N := N) (h := h) (a := a) (mf := mF mf 0 0) (ma := ma) (c := k) (R := R) (S := S) (fx := false) hN ok sz (by omega) hR hS
    rw [if_neg (by simp only [q]; decide), if_pos m_isc]
    rw [show (if false = true then iI 1 else iI 0) = iI 0 from rfl] at cl
    rw [cl, Option.bind_some]
    simp only [iI_zb, eq_X9_lawful_28, eq_X9_lawful_29, iI_10, eq_self, ↓reduceIte]
    rw [q, Int.toNat_natCast, Bool.true_and]
    show _ = some (sLaw (mF mf 0 0 2) (mF mf 0 0 3) (ma 2) k R S false, _)
    by_cases q3 : sLaw (mF mf 0 0 2) (mF mf 0 0 3) (ma 2) k R S false = true <;> simp [q3]
  · have q' : vIn c 0 (ma 2 2 - 1) = false := by simpa using q
    rw [if_pos (by simp only [q']; decide), q']
    rfl
/-- loose cells on spots that aren't lawful lose them, one behind another -/
def rLose (rows sites : Int) (r : Int → Int) : Nat → Int → Int
  | 0 => r
  | n + 1 => if ((!sFix (rLose rows sites r n) n && sHas (rLose rows sites r n) n) && !sLaw rows sites (rLose rows sites r n) n (rLose rows sites r n (36 + 7 * n + 5)) (rLose rows sites r n (36 + 7 * n + 6)) false) = true then rGive (rLose rows sites r n) n (-1) (-1) else rLose rows sites r n
theorem rLose_ok {rows sites : Int} {r : Int → Int} (h : rOk r) (n : Nat) : rOk (rLose rows sites r n) ∧ rLose rows sites r n 2 = r 2 := by
  induction n with
  | zero => exact ⟨h, rfl⟩
  | succ n ih =>
    rw [rLose]
    split
    · exact ⟨rOk_give ih.1 (by omega) (by omega) (by omega), by rw [rGive_n (by omega) (by omega)]; exact ih.2⟩
    · exact ih
theorem c_loseUnlawful (hN : 5000 ≤ N) (ok : rOk (ma 2)) (sz : mSz mf) : fm_X9_loseUnlawful N [.ref a] (mH h a mf ma) = some (mH h a mf (mA ma 2 (rLose (mf 2) (mf 3) (ma 2) (ma 2 2).toNat))) := by
  rw [en_X9_loseUnlawful, eq_X9_loseUnlawful_0]
  have g2 := ok.2.2.2.1
  obtain ⟨e, he⟩ : ∃ e : Nat, ma 2 2 = e := ⟨(ma 2 2).toNat, by omega⟩
  have key := fix_up (B := cm_X9_loseUnlawful_2 N) (R := some (mH h a mf (mA ma 2 (rLose (mf 2) (mf 3) (ma 2) (ma 2 2).toNat)))) (fun i => [some (.ref a), some (.int (iI i))]) (fun i => mH h a mf (mA ma 2 (rLose (mf 2) (mf 3) (ma 2) i))) e ?_ ?_ N 0 (by omega) (by omega)
  · simp only [rLose, mA_self] at key
    exact key
  · intro K
    have k2 := (rLose_ok (rows := mf 2) (sites := mf 3) ok e).2
    rw [eq_X9_loseUnlawful_2, m_r6, Option.bind_some, m_l6 (by omega) (by omega), Option.bind_some, mA_2, k2, he, if_pos ((iI_le ⟨by omega, by omega⟩ ⟨by omega, by omega⟩).mpr (Int.le_refl _)), Int.toNat_natCast]
  · intro K i hi
    obtain ⟨k1, k2⟩ := rLose_ok (rows := mf 2) (sites := mf 3) ok i
    generalize hr : rLose (mf 2) (mf 3) (ma 2) i = r at k1 k2
    have b5 := k1.1 (36 + 7 * i + 5)
    have b6 := k1.1 (36 + 7 * i + 6)
    have c1 := c_isMoving (N := N) (h := h) (a := a) (mf := mf) (ma := mA ma 2 r) (c := i) (by omega) (by rw [mA_2]; exact k1.1)
    have c2 := c_lawOk (N := N) (h := h) (a := a) (mf := mf) (ma := mA ma 2 r) (c := i) (R := r (36 + 7 * i + 5)) (S := r (36 + 7 * i + 6)) (fx := false) hN (by rw [mA_2]; exact k1) sz (by rw [mA_2, k2]; omega) (by omega) (by omega)
    have c3 := c_lose (N := N) (h := h) (a := a) (mf := mf) (ma := mA ma 2 r) (c := i) (by omega) (by omega)
    rw [show (if false = true then iI 1 else iI 0) = iI 0 from rfl] at c2
    rw [mA_2] at c1 c2
    rw [mA_2, mA_mA] at c3
    have ei : ((i + 1 : Nat) : Int) = (i : Int) + 1 := by omega
    rw [eq_X9_loseUnlawful_2, m_r6, Option.bind_some, m_l6 (by omega) (by omega), Option.bind_some, mA_2, k2, he, if_neg (fun z => absurd ((iI_le ⟨by omega, by omega⟩ ⟨by omega, by omega⟩).mp z) (by omega)), if_pos m_isc, c1, Option.bind_some]
    simp (disch := omega) only [m_r6, Option.bind_some, c_cellAt, iI_add, m_l6, mA_2, m_isc, c2, c3, eq_X9_loseUnlawful_57, iI_zb, ↓reduceIte, rLose, hr, ei]
    by_cases q1 : (!sFix r i && sHas r i) = true <;> by_cases q2 : sLaw (mf 2) (mf 3) r i (r (36 + 7 * i + 5)) (r (36 + 7 * i + 6)) false = true <;> simp [q1, q2]
theorem c_undo (hN : 5000 ≤ N) (h9 : 0 ≤ mf 9 ∧ mf 9 ≤ 12) : fm_X9_undo N [.ref a] (mH h a mf ma) = if mf 9 = 0 then some (iI (-4), mH h a (mF (mF mf 0 0) 1 (-4)) (mA ma 0 (rU (ma 0) 4 (ma 0 4 + 1)))) else some (iI (ma 4 (mf 9 - 1)), mH h a (mF (mF (mF mf 0 0) 9 (mf 9 - 1)) 1 0) (mA ma 2 (rCp (ma 3) (ma 2) (400 * (mf 9 - 1)) 0 400))) := by
  rw [en_X9_undo, eq_X9_undo_0, m_p0, Option.bind_some, m_g9, Option.bind_some, mF_n (by decide)]
  simp (disch := omega) only [iI_eqD]
  by_cases q : mf 9 = 0
  · rw [if_neg (fun z => z q), if_pos q, if_pos m_isc, c_refuse (by omega), Option.bind_some]
    rfl
  · rw [if_pos q, if_neg q, Option.bind_some, iI_sub, m_p9, Option.bind_some, m_r7, Option.bind_some, m_g9, Option.bind_some, m_r6, Option.bind_some, mF_s, iI_mul, c_copy (p := 3) (q := 2) hN (by decide) (by decide) (by decide) (by omega) (by omega) (by simp [mLen]; omega) (by simp [mLen]), Option.bind_some, m_r8, Option.bind_some, m_g9, Option.bind_some, mF_s, m_l8 (by omega) (by omega), Option.bind_some, if_pos m_isc, c_tell, Option.bind_some, mA_n (by decide)]
end M5
