/-! ===== the model: a run found, its cells ===== -/
theorem aS_lt1 {f g : Nat → Int} {n k : Nat} (h : ∀ k, k < n → f k ≤ g k) (hk : k < n) (h1 : f k + 1 ≤ g k) : aS f n + 1 ≤ aS g n := by
  induction n with
  | zero => omega
  | succ n ih =>
    rw [aS, aS]
    by_cases e : k = n
    · subst e
      have := aS_le (f := f) (g := g) (n := k) (fun j hj => h j (by omega))
      omega
    · have := ih (fun j hj => h j (by omega)) (by omega)
      have := h n (by omega)
      omega
/-- the i-th with a row and a fence: how many so far, which one -/
def sFR (A B : Int → Int) (R F I : Int) : Nat → Int × Int
  | 0 => (0, -1)
  | k + 1 => if A k = R ∧ B k = F then ((sFR A B R F I k).1 + 1, if (sFR A B R F I k).1 = I then k else (sFR A B R F I k).2) else sFR A B R F I k
theorem sFR_b (A B : Int → Int) (R F I : Int) (k : Nat) : (0 ≤ (sFR A B R F I k).1 ∧ (sFR A B R F I k).1 ≤ k) ∧ (-1 ≤ (sFR A B R F I k).2 ∧ (sFR A B R F I k).2 < k) := by
  induction k with
  | zero => simp [sFR]
  | succ k ih =>
    rw [sFR]
    split
    · dsimp only
      split <;> omega
    · omega
/-- cells that begin on sites of a run, from the left -/
def lLies (r : Int → Int) (R fi : Int) : Nat → List Int
  | 0 => []
  | n + 1 => if ¬ sCel r R (fi + n) (-1) false = -1 ∧ r (36 + 7 * sCel r R (fi + n) (-1) false + 6) = fi + n then lLies r R fi n ++ [sCel r R (fi + n) (-1) false] else lLies r R fi n
theorem lLies_len (r : Int → Int) (R fi : Int) (n : Nat) (h2 : r 2 ≤ 20) : ((lLies r R fi n).length : Int) ≤ aS (fun c => if fi ≤ r (36 + 7 * c + 6) ∧ r (36 + 7 * c + 6) < fi + n then 1 else 0) 20 := by
  induction n with
  | zero =>
    have := (aS_b (f := fun c : Nat => if fi ≤ r (36 + 7 * c + 6) ∧ r (36 + 7 * c + 6) < fi + ((0 : Nat) : Int) then 1 else 0) (lo := 0) (hi := 1) (n := 20) (fun k _ => by split <;> omega)).1
    simp only [lLies, List.length_nil]
    omega
  | succ n ih =>
    rw [lLies]
    split
    · next q =>
      have b := sCel_b r R (fi + n) (-1) false h2
      obtain ⟨c, hc⟩ : ∃ c : Nat, sCel r R (fi + n) (-1) false = c := ⟨(sCel r R (fi + n) (-1) false).toNat, by omega⟩
      rw [hc] at q
      have := aS_lt1 (f := fun c : Nat => if fi ≤ r (36 + 7 * c + 6) ∧ r (36 + 7 * c + 6) < fi + (n : Int) then 1 else 0) (g := fun c : Nat => if fi ≤ r (36 + 7 * c + 6) ∧ r (36 + 7 * c + 6) < fi + ((n + 1 : Nat) : Int) then 1 else 0) (n := 20) (k := c) (fun k _ => by
        by_cases z : fi ≤ r (36 + 7 * k + 6) ∧ r (36 + 7 * k + 6) < fi + (n : Int)
        · rw [if_pos z, if_pos (by omega)]; omega
        · rw [if_neg z]; split <;> omega) (by omega) (by
        rw [if_neg (by omega), if_pos (by omega)]; omega)
      rw [List.length_append]
      simp only [List.length_cons, List.length_nil]
      omega
    · have := aS_le (f := fun c : Nat => if fi ≤ r (36 + 7 * c + 6) ∧ r (36 + 7 * c + 6) < fi + (n : Int) then 1 else 0) (g := fun c : Nat => if fi ≤ r (36 + 7 * c + 6) ∧ r (36 + 7 * c + 6) < fi + ((n + 1 : Nat) : Int) then 1 else 0) (n := 20) (fun k _ => by
        by_cases z : fi ≤ r (36 + 7 * k + 6) ∧ r (36 + 7 * k + 6) < fi + (n : Int)
        · rw [if_pos z, if_pos (by omega)]; omega
        · rw [if_neg z]; split <;> omega)
      omega
theorem lLies_20 (r : Int → Int) (R fi : Int) (n : Nat) (h2 : r 2 ≤ 20) : (lLies r R fi n).length ≤ 20 := by
  have h1 := lLies_len r R fi n h2
  have := (aS_b (f := fun c : Nat => if fi ≤ r (36 + 7 * c + 6) ∧ r (36 + 7 * c + 6) < fi + (n : Int) then 1 else 0) (lo := 0) (hi := 1) (n := 20) (fun k _ => by split <;> omega)).2
  omega
def sMvA (r : Int → Int) (c s : Int) : Int := r (36 + 7 * c) * sFar (16 * s) (r (36 + 7 * c + 3))
def sAhd (r : Int → Int) (c o : Int) : Bool := decide (r (36 + 7 * c + 3) < r (36 + 7 * o + 3)) || (decide (r (36 + 7 * c + 3) = r (36 + 7 * o + 3)) && decide (c < o))
def sLsM (tall : Int) (r : Int → Int) : Int := aS (fun c => if (!sFix r c && sHas r c) = true then sMove tall r c else 0) (r 2).toNat
section M33
variable {N : Nat} {h : ka_H} {a : Nat} {mf : Nat → Int} {ma : Nat → Int → Int}
theorem c_findRun {R F I : Int} (hN : 5000 ≤ N) (h18 : 0 ≤ mf 18 ∧ mf 18 ≤ 256) (hA : ∀ k, 0 ≤ k → k < mf 18 → -1 ≤ ma 8 k ∧ ma 8 k ≤ 600) (hB : ∀ k, 0 ≤ k → k < mf 18 → -1 ≤ ma 9 k ∧ ma 9 k ≤ 600) (hR : -2147483648 ≤ R ∧ R < 2147483648) (hF : -2147483648 ≤ F ∧ F < 2147483648) (hI : -2147483648 ≤ I ∧ I < 2147483648) : fm_X9_findRun N [.ref a, .int (iI R), .int (iI F), .int (iI I)] (mH h a mf ma) = some (iI (sFR (ma 8) (ma 9) R F I (mf 18).toNat).2, mH h a mf ma) := by
  rw [en_X9_findRun, eq_X9_findRun_0]
  refine fix_up (fun i => [some (.ref a), some (.int (iI R)), some (.int (iI F)), some (.int (iI I)), some (.int (iI (sFR (ma 8) (ma 9) R F I i).1)), some (.int (iI (sFR (ma 8) (ma 9) R F I i).2)), some (.int (iI i))]) (fun _ => mH h a mf ma) (mf 18).toNat ?_ ?_ N 0 (by omega) (by omega)
  · intro K
    rw [eq_X9_findRun_9, m_g18, Option.bind_some, if_pos ((iI_le ⟨by omega, by omega⟩ ⟨by omega, by omega⟩).mpr (by omega))]
  · intro K i hi
    have b1 := hA i (by omega) (by omega)
    have b2 := hB i (by omega) (by omega)
    have b3 := sFR_b (ma 8) (ma 9) R F I i
    have ei : ((i + 1 : Nat) : Int) = (i : Int) + 1 := by omega
    rw [eq_X9_findRun_9, m_g18, Option.bind_some, if_neg (fun q => by have := (iI_le ⟨by omega, by omega⟩ ⟨by omega, by omega⟩).mp q; omega), m_r14, Option.bind_some, m_l14 (by omega) (by omega), Option.bind_some, m_r15, Option.bind_some, m_l15 (by omega) (by omega), Option.bind_some, sFR]
    simp (disch := omega) only [iI_eqD, eq_X9_findRun_53, eq_X9_findRun_58, iI_add, ei]
    by_cases q1 : ma 8 i = R <;> by_cases q2 : ma 9 i = F <;> by_cases q3 : (sFR (ma 8) (ma 9) R F I i).1 = I <;> simp [q1, q2, q3]
theorem c_layLies {k : Int} (hN : 5000 ≤ N) (ok : rOk (ma 2)) (hk : 0 ≤ k ∧ k < 256) (h8 : -1 ≤ ma 8 k ∧ ma 8 k ≤ 600) (h10 : 0 ≤ ma 10 k ∧ ma 10 k ≤ 600) (h11 : 0 ≤ ma 11 k ∧ ma 11 k ≤ 600) : fm_X9_layLies N [.ref a, .int (iI k)] (mH h a mf ma) = some (mH h a (mF mf 20 (lLies (ma 2) (ma 8 k) (ma 10 k) (ma 11 k).toNat).length) (mA ma 12 (rList (lLies (ma 2) (ma 8 k) (ma 10 k) (ma 11 k).toNat) (ma 12)))) := by
  have g2 := ok.2.2.2.1
  rw [en_X9_layLies, eq_X9_layLies_0, m_p20, Option.bind_some, m_r16, Option.bind_some, m_l16 (by omega) (by omega), Option.bind_some]
  have key := fix_up (B := cm_X9_layLies_12 N) (R := some (mH h a (mF mf 20 (lLies (ma 2) (ma 8 k) (ma 10 k) (ma 11 k).toNat).length) (mA ma 12 (rList (lLies (ma 2) (ma 8 k) (ma 10 k) (ma 11 k).toNat) (ma 12))))) (fun i => [some (.ref a), some (.int (iI k)), some (.int (iI (ma 10 k + i)))]) (fun i => mH h a (mF mf 20 (lLies (ma 2) (ma 8 k) (ma 10 k) i).length) (mA ma 12 (rList (lLies (ma 2) (ma 8 k) (ma 10 k) i) (ma 12)))) (ma 11 k).toNat ?_ ?_ N 0 (by omega) (by omega)
  · simp only [lLies, List.length_nil, rList_nil, mA_self, Int.natCast_zero, Int.add_zero] at key
    exact key
  · intro K
    rw [eq_X9_layLies_12, m_r16, Option.bind_some, m_l16 (by omega) (by omega), Option.bind_some, m_r17, Option.bind_some, m_l17 (by omega) (by omega), Option.bind_some, mA_n (by decide), mA_n (by decide), iI_add, if_pos ((iI_le ⟨by omega, by omega⟩ ⟨by omega, by omega⟩).mpr (by omega))]
  · intro K i hi
    have ei : ma 10 k + ((i + 1 : Nat) : Int) = ma 10 k + (i : Int) + 1 := by omega
    have ll := lLies_20 (ma 2) (ma 8 k) (ma 10 k) (i + 1) g2.2
    generalize hl : lLies (ma 2) (ma 8 k) (ma 10 k) i = l
    have ct := c_cellThere (N := N) (h := h) (a := a) (mf := mF mf 20 l.length) (ma := mA ma 12 (rList l (ma 12))) (R := ma 8 k) (S := ma 10 k + i) (but := -1) (fx := false) hN (by rw [mA_n (by decide)]; exact ok.1) (by rw [mA_n (by decide)]; exact g2) (by omega) (by omega) (by omega)
    rw [show (if false = true then iI 1 else iI 0) = iI 0 from rfl, mA_n (by decide)] at ct
    have bt := sCel_b (ma 2) (ma 8 k) (ma 10 k + i) (-1) false g2.2
    rw [lLies, hl] at ll
    rw [eq_X9_layLies_12, m_r16, Option.bind_some, m_l16 (by omega) (by omega), Option.bind_some, m_r17, Option.bind_some, m_l17 (by omega) (by omega), Option.bind_some, mA_n (by decide), mA_n (by decide), iI_add, if_neg (fun q => by have := (iI_le ⟨by omega, by omega⟩ ⟨by omega, by omega⟩).mp q; omega), m_r14, Option.bind_some, m_l14 (by omega) (by omega), Option.bind_some, mA_n (by decide), if_pos m_isc, ct, Option.bind_some, lLies, hl, ei]
    dsimp only
    by_cases q1 : sCel (ma 2) (ma 8 k) (ma 10 k + i) (-1) false = -1
    · rw [if_pos (by rw [q1]), if_neg (fun z => z.1 q1), eq_X9_layLies_84, iI_add]
    · have b6 := ok.1 (36 + 7 * sCel (ma 2) (ma 8 k) (ma 10 k + i) (-1) false + 6)
      rw [if_neg (by rw [iI_eq ⟨by omega, by omega⟩ ⟨by omega, by omega⟩]; exact q1), m_r6, Option.bind_some, c_cellAt, Option.bind_some]
      dsimp only
      rw [iI_add, m_l6 (by omega) (by omega), Option.bind_some, mA_n (by decide)]
      by_cases q2 : ma 2 (36 + 7 * sCel (ma 2) (ma 8 k) (ma 10 k + i) (-1) false + 6) = ma 10 k + i
      · rw [if_pos ⟨q1, q2⟩, List.length_append] at ll
        simp only [List.length_cons, List.length_nil] at ll
        rw [if_neg (fun z => z (by rw [q2])), if_pos ⟨q1, q2⟩, m_r19, Option.bind_some, m_g20, Option.bind_some, mF_s, m_s19 (by omega) (by omega), Option.bind_some, mU_mA, mA_2, mA_mA, rList_app, eq_X9_layLies_75, m_g20, Option.bind_some, mF_s, iI_add, m_p20, Option.bind_some, eq_X9_layLies_84, iI_add, List.length_append]
        simp only [List.length_cons, List.length_nil]
        congr 2
        funext j
        by_cases ej : j = 20 <;> simp [mF, ej]
      · rw [if_pos (by rw [iI_eq ⟨by omega, by omega⟩ ⟨by omega, by omega⟩]; exact q2), if_neg (fun z => q2 z.2), eq_X9_layLies_84, iI_add]
theorem c_moveAt {c s : Int} (ok : rOk (ma 2)) (hc : 0 ≤ c ∧ c < 20) (hs : -10000 ≤ s ∧ s ≤ 10000) : fm_X9_moveAt N [.ref a, .int (iI c), .int (iI s)] (mH h a mf ma) = some (iI (sMvA (ma 2) c s), mH h a mf ma) := by
  have b3 := ok.1 (36 + 7 * c + 3)
  rw [en_X9_moveAt, eq_X9_moveAt_0, if_pos m_isc, c_width hc.1 hc.2, Option.bind_some]
  dsimp only
  rw [m_r6, Option.bind_some, c_cellAt, Option.bind_some]
  dsimp only
  rw [iI_add, m_l6 (by omega) (by omega), Option.bind_some, iI_mul, c_far (by omega) (by omega), Option.bind_some]
  dsimp only
  rw [iI_mul]
  rfl
theorem c_isAhead {c o : Int} (ok : rOk (ma 2)) (hc : 0 ≤ c ∧ c < 20) (ho : 0 ≤ o ∧ o < 20) : fm_X9_isAhead N [.ref a, .int (iI c), .int (iI o)] (mH h a mf ma) = some (sAhd (ma 2) c o, mH h a mf ma) := by
  have b3 := ok.1 (36 + 7 * c + 3)
  have b4 := ok.1 (36 + 7 * o + 3)
  rw [en_X9_isAhead, eq_X9_isAhead_0, m_r6, Option.bind_some, c_cellAt, Option.bind_some]
  dsimp only
  rw [iI_add, m_l6 (by omega) (by omega), Option.bind_some, m_r6, Option.bind_some, c_cellAt, Option.bind_some]
  dsimp only
  rw [iI_add, m_l6 (by omega) (by omega), Option.bind_some]
  simp (disch := omega) only [iI_ltD, iI_eqD, iI_leD, eq_X9_isAhead_42, eq_X9_isAhead_46, eq_X9_isAhead_47, iI_10, eq_self, ↓reduceIte]
  unfold sAhd
  by_cases q1 : ma 2 (36 + 7 * c + 3) < ma 2 (36 + 7 * o + 3)
  · simp [q1]
  · by_cases q2 : ma 2 (36 + 7 * c + 3) = ma 2 (36 + 7 * o + 3)
    · by_cases q3 : o ≤ c
      · have : ¬ c < o := by omega
        simp [q2, q3, this]
      · have : c < o := by omega
        simp [q2, q3, this]
    · simp [q1, q2]
theorem c_looseMoves (hN : 5000 ≤ N) (ok : rOk (ma 2)) : fm_X9_looseMoves N [.ref a] (mH h a mf ma) = some (iI (sLsM (ma 1 4) (ma 2)), mH h a mf ma) := by
  have g2 := ok.2.2.2.1
  rw [en_X9_looseMoves, eq_X9_looseMoves_0]
  refine fix_up (fun i => [some (.ref a), some (.int (iI (aS (fun c => if (!sFix (ma 2) c && sHas (ma 2) c) = true then sMove (ma 1 4) (ma 2) c else 0) i))), some (.int (iI i))]) (fun _ => mH h a mf ma) (ma 2 2).toNat ?_ ?_ N 0 (by omega) (by omega)
  · intro K
    rw [eq_X9_looseMoves_4, m_r6, Option.bind_some, m_l6 (by omega) (by omega), Option.bind_some, if_pos ((iI_le ⟨by omega, by omega⟩ ⟨by omega, by omega⟩).mpr (by omega))]
    rfl
  · intro K i hi
    have ei : ((i + 1 : Nat) : Int) = (i : Int) + 1 := by omega
    rw [eq_X9_looseMoves_4, m_r6, Option.bind_some, m_l6 (by omega) (by omega), Option.bind_some, if_neg (fun q => by have := (iI_le ⟨by omega, by omega⟩ ⟨by omega, by omega⟩).mp q; omega), if_pos m_isc, c_isMoving (by omega) ok.1, Option.bind_some, aS, ei]
    dsimp only
    by_cases q : (!sFix (ma 2) i && sHas (ma 2) i) = true
    · rw [if_neg (by rw [q]; exact tb1), if_pos q, if_pos m_isc, c_moveOf ok (by omega) (by omega), Option.bind_some, eq_X9_looseMoves_32, iI_add, iI_add]
    · rw [if_pos (by rw [iI_zb]; simpa using q), if_neg q, eq_X9_looseMoves_32, iI_add, iI_add]
end M33
