/-! ===== the model: taken boxes ===== -/
section M7
variable {N : Nat} {h : ka_H} {a : Nat} {mf : Nat → Int} {ma : Nat → Int → Int}
def sTak1 (rows sites : Int) (r : Int → Int) (fn : Bool) (R S : Int) : Bool := (vIn R 0 (rows - 1) && vIn S 0 (sites - 1)) && (decide (¬ sCel r R S (-1) true = -1) || (fn && decide (¬ sFen r R S = -1)))
def sTakR (rows sites : Int) (r : Int → Int) (fn : Bool) (R fi la : Int) : Bool := aP (fun j => sTak1 rows sites r fn R (fi + j)) (la - fi + 1).toNat
def sTak (rows sites : Int) (r : Int → Int) (fn : Bool) (lo hi fi la : Int) : Bool := aP (fun i => sTakR rows sites r fn (lo + i) fi la) (hi - lo + 1).toNat
theorem sCel_b (r : Int → Int) (R S but : Int) (fx : Bool) (h : r 2 ≤ 20) : -1 ≤ sCel r R S but fx ∧ sCel r R S but fx < 20 := by
  have := aL_range (p := sThere r R S but fx) (n := (r 2).toNat)
  unfold sCel
  omega
theorem sFen_b (r : Int → Int) (R S : Int) (h : r 1 ≤ 3) : -1 ≤ sFen r R S ∧ sFen r R S < 3 := by
  have := aL_range (p := sFin r R S) (n := (r 1).toNat)
  unfold sFen
  omega
theorem c_tak15 {lo hi fi la R : Int} {fn so : Bool} (K6 : ka_K (Bool × ka_H)) (hN : 5000 ≤ N) (ok : rOk (ma 2)) (sz : mSz mf) (hR : 0 ≤ R ∧ R ≤ 100) (hf : -100 ≤ fi ∧ fi ≤ la ∧ la ≤ 100) :
    ki_fix (cm_X9_isTaken_15 N K6) N [some (.ref a), some (.int (iI lo)), some (.int (iI hi)), some (.int (iI fi)), some (.int (iI la)), some (.int (if fn = true then iI 1 else iI 0)), some (.int (if so = true then iI 1 else iI 0)), some (.int (iI R)), some (.int (iI fi))] [] (mH h a mf ma) = K6 [some (.ref a), some (.int (iI lo)), some (.int (iI hi)), some (.int (iI fi)), some (.int (iI la)), some (.int (if fn = true then iI 1 else iI 0)), some (.int (if (so || sTakR (mf 2) (mf 3) (ma 2) fn R fi la) = true then iI 1 else iI 0)), some (.int (iI (R + 1)))] [] (mH h a mf ma) := by
  obtain ⟨e, he⟩ : ∃ e : Nat, la - fi + 1 = e := ⟨(la - fi + 1).toNat, by omega⟩
  have key := fix_up (B := cm_X9_isTaken_15 N K6) (R := K6 [some (.ref a), some (.int (iI lo)), some (.int (iI hi)), some (.int (iI fi)), some (.int (iI la)), some (.int (if fn = true then iI 1 else iI 0)), some (.int (if (so || sTakR (mf 2) (mf 3) (ma 2) fn R fi la) = true then iI 1 else iI 0)), some (.int (iI (R + 1)))] [] (mH h a mf ma)) (fun i => [some (.ref a), some (.int (iI lo)), some (.int (iI hi)), some (.int (iI fi)), some (.int (iI la)), some (.int (if fn = true then iI 1 else iI 0)), some (.int (if (so || aP (fun j => sTak1 (mf 2) (mf 3) (ma 2) fn R (fi + j)) i) = true then iI 1 else iI 0)), some (.int (iI R)), some (.int (iI (fi + i)))]) (fun _ => mH h a mf ma) e ?_ ?_ N 0 (by omega) (by omega)
  · simp only [aP, Bool.or_false, Int.natCast_zero, Int.add_zero] at key
    exact key
  · intro K
    rw [eq_X9_isTaken_15, if_pos ((iI_lt ⟨by omega, by omega⟩ ⟨by omega, by omega⟩).mpr (by omega)), iI_add]
    unfold sTakR
    rw [he, Int.toNat_natCast]
  · intro K i hi'
    have c1 := c_isSite (N := N) (h := h) (a := a) (mf := mf) (ma := ma) (R := R) (S := fi + i) sz.1 sz.2 (by omega) (by omega)
    have c2 := c_cellThere (N := N) (h := h) (a := a) (mf := mf) (ma := ma) (R := R) (S := fi + i) (but := -1) (fx := true) hN ok.1 ok.2.2.2.1 (by omega) (by omega) (by omega)
    have c3 := c_fenceThere (N := N) (h := h) (a := a) (mf := mf) (ma := ma) (R := R) (S := fi + i) hN ok.1 ok.2.2.1 (by omega) (by omega)
    have b2 := sCel_b (ma 2) R (fi + i) (-1) true ok.2.2.2.1.2
    have b3 := sFen_b (ma 2) R (fi + i) ok.2.2.1.2
    rw [show (if true = true then iI 1 else iI 0) = iI 1 from rfl] at c2
    rw [eq_X9_isTaken_15, if_neg (fun z => absurd ((iI_lt ⟨by omega, by omega⟩ ⟨by omega, by omega⟩).mp z) (by omega)), if_pos m_isc, c1, Option.bind_some]
    simp (disch := omega) only [m_isc, c2, c3, Option.bind_some, iI_add, iI_eqD, iI_zb, eq_X9_isTaken_69, eq_X9_isTaken_73, eq_X9_isTaken_74, ↓reduceIte]
    have ei : fi + ((i + 1 : Nat) : Int) = fi + (i : Int) + 1 := by omega
    show _ = K [some (.ref a), some (.int (iI lo)), some (.int (iI hi)), some (.int (iI fi)), some (.int (iI la)), some (.int (if fn = true then iI 1 else iI 0)), some (.int (if (so || aP (fun j => sTak1 (mf 2) (mf 3) (ma 2) fn R (fi + j)) (i + 1)) = true then iI 1 else iI 0)), some (.int (iI R)), some (.int (iI (fi + ((i + 1 : Nat) : Int))))] [] _
    rw [ei, aP, ← Bool.or_assoc]
    generalize (so || aP (fun j => sTak1 (mf 2) (mf 3) (ma 2) fn R (fi + j)) i) = b
    unfold sTak1
    by_cases q1 : b = true <;> by_cases q2 : (vIn R 0 (mf 2 - 1) && vIn (fi + i) 0 (mf 3 - 1)) = true <;> by_cases q3 : sCel (ma 2) R (fi + i) (-1) true = -1 <;> by_cases q4 : fn = true <;> by_cases q5 : sFen (ma 2) R (fi + i) = -1 <;> simp only [q1, q2, q3, q4, q5, decide_true, decide_false, Bool.not_true, Bool.not_false, not_true_eq_false, not_false_eq_true, Bool.or_true, Bool.or_false, Bool.true_or, Bool.false_or, Bool.and_true, Bool.and_false, Bool.true_and, Bool.false_and, Bool.true_eq_false, Bool.false_eq_true, Bool.not_eq_true, ↓reduceIte] <;> simp_all
theorem c_isTaken {lo hi fi la : Int} {fn : Bool} (hN : 5000 ≤ N) (ok : rOk (ma 2)) (sz : mSz mf) (hR : 0 ≤ lo ∧ lo ≤ hi ∧ hi ≤ 50) (hf : -100 ≤ fi ∧ fi ≤ la ∧ la ≤ 100) : fm_X9_isTaken N [.ref a, .int (iI lo), .int (iI hi), .int (iI fi), .int (iI la), .int (if fn = true then iI 1 else iI 0)] (mH h a mf ma) = some (sTak (mf 2) (mf 3) (ma 2) fn lo hi fi la, mH h a mf ma) := by
  rw [en_X9_isTaken, eq_X9_isTaken_0]
  obtain ⟨e, he⟩ : ∃ e : Nat, hi - lo + 1 = e := ⟨(hi - lo + 1).toNat, by omega⟩
  have key := fix_up (B := cm_X9_isTaken_6 N) (R := some (sTak (mf 2) (mf 3) (ma 2) fn lo hi fi la, mH h a mf ma)) (fun i => [some (.ref a), some (.int (iI lo)), some (.int (iI hi)), some (.int (iI fi)), some (.int (iI la)), some (.int (if fn = true then iI 1 else iI 0)), some (.int (if aP (fun i => sTakR (mf 2) (mf 3) (ma 2) fn (lo + i) fi la) i = true then iI 1 else iI 0)), some (.int (iI (lo + i)))]) (fun _ => mH h a mf ma) e ?_ ?_ N 0 (by omega) (by omega)
  · simp only [aP, Int.natCast_zero, Int.add_zero] at key
    exact key
  · intro K
    rw [eq_X9_isTaken_6, if_pos ((iI_lt ⟨by omega, by omega⟩ ⟨by omega, by omega⟩).mpr (by omega)), bo_id]
    unfold sTak
    rw [he, Int.toNat_natCast]
  · intro K i hi'
    rw [eq_X9_isTaken_6, if_neg (fun z => absurd ((iI_lt ⟨by omega, by omega⟩ ⟨by omega, by omega⟩).mp z) (by omega)), c_tak15 K hN ok sz (by omega) hf]
    have ei : lo + ((i + 1 : Nat) : Int) = lo + (i : Int) + 1 := by omega
    rw [ei, aP]
end M7
