/-! ===== the model: runs laid ===== -/
section M32
variable {N : Nat} {h : ka_H} {a : Nat} {mf : Nat → Int} {ma : Nat → Int → Int}
theorem c_isRunSite {R S F : Int} (hN : 5000 ≤ N) (ok : rOk (ma 2)) (sz : mSz mf) (hR : -10000 ≤ R ∧ R ≤ 10000) (hS : -10000 ≤ S ∧ S ≤ 10000) (hF : -10000 ≤ F ∧ F ≤ 10000) : fm_X9_isRunSite N [.ref a, .int (iI R), .int (iI S), .int (iI F)] (mH h a mf ma) = some (sRunS (mf 2) (mf 3) (ma 2) R S F, mH h a mf ma) := by
  have c1 := c_isSite (N := N) (h := h) (a := a) (mf := mf) (ma := ma) (R := R) (S := S) sz.1 sz.2 (by omega) (by omega)
  have c2 := c_isBarred (N := N) (h := h) (a := a) (mf := mf) (ma := ma) (R := R) (S := S) hN ok.1 ok.2.1 (by omega) (by omega)
  have c3 := c_cellThere (N := N) (h := h) (a := a) (mf := mf) (ma := ma) (R := R) (S := S) (but := -1) (fx := true) hN ok.1 ok.2.2.2.1 (by omega) (by omega) (by omega)
  have c4 := c_fenceThere (N := N) (h := h) (a := a) (mf := mf) (ma := ma) (R := R) (S := S) hN ok.1 ok.2.2.1 (by omega) (by omega)
  have b3 := sCel_b (ma 2) R S (-1) true ok.2.2.2.1.2
  have b4 := sFen_b (ma 2) R S ok.2.2.1.2
  rw [show (if true = true then iI 1 else iI 0) = iI 1 from rfl] at c3
  rw [en_X9_isRunSite, eq_X9_isRunSite_0, if_pos m_isc, c1, Option.bind_some]
  dsimp only
  simp (disch := omega) only [m_isc, c2, c3, c4, Option.bind_some, iI_eqD, iI_zb, eq_X9_isRunSite_44, eq_X9_isRunSite_45, iI_10, eq_self, ↓reduceIte]
  unfold sRunS
  by_cases q1 : (vIn R 0 (mf 2 - 1) && vIn S 0 (mf 3 - 1)) = true <;> by_cases q2 : sBar (ma 2) R S = true <;> by_cases q3 : sCel (ma 2) R S (-1) true = -1 <;> by_cases q4 : sFen (ma 2) R S = F <;> simp [q1, q2, q3, q4]
theorem sRunS_end {rows sites : Int} {r : Int → Int} {R F : Int} {s : Nat} (h : sites ≤ s) : sRunS rows sites r R s F = false := by
  unfold sRunS vIn
  rw [decide_eq_false (show ¬ (0 ≤ (s : Int) ∧ (s : Int) ≤ sites - 1) by omega)]
  simp
theorem lRow_s {rows sites : Int} {r : Int → Int} {R F : Int} {s : Nat} (hp : sRunS rows sites r R s F = false) : lRow rows sites r R F (s + 1) = if (aR (fun s => sRunS rows sites r R s F) s).2 = 0 then lRow rows sites r R F s else lRow rows sites r R F s ++ [(R, F, ((s - (aR (fun s => sRunS rows sites r R s F) s).2 : Nat) : Int), ((aR (fun s => sRunS rows sites r R s F) s).2 : Int))] := by
  unfold lRow
  rw [aR, if_neg (by rw [hp]; decide)]
  dsimp only
  split
  · rfl
  · rw [List.map_append]
    rfl
def mHR (h : ka_H) (a : Nat) (mf : Nat → Int) (ma : Nat → Int → Int) (l : List (Int × Int × Int × Int)) : ka_H := mH h a (mF mf 18 l.length) (mRuns ma l)
theorem c_lay40 {R f s : Nat} (K7 K17 K29 : ka_K ka_H) (l0 : List (Int × Int × Int × Int)) (hN : 5000 ≤ N) (ok : rOk (ma 2)) (sz : mSz mf) (hR : R ≤ 100) (hf : f ≤ 100) (hs : (s : Int) < mf 3) (h0 : (aR (fun s => sRunS (mf 2) (mf 3) (ma 2) R s (f - 1)) s).2 = 0) (hl : ∀ t : Nat, t ≤ (mf 3).toNat + 1 → (l0.length : Int) + (lRow (mf 2) (mf 3) (ma 2) R (f - 1) t).length ≤ 256) :
    ∃ t : Nat, s < t ∧ t ≤ (mf 3).toNat + 1 ∧ (aR (fun s => sRunS (mf 2) (mf 3) (ma 2) R s (f - 1)) t).2 = 0 ∧ ki_fix (cm_X9_layRuns_40 N K7 K17 K29) N [some (.ref a), some (.int (iI R)), some (.int (iI (f - 1))), some (.int (iI s)), some (.int (iI s))] [] (mHR h a mf ma (l0 ++ lRow (mf 2) (mf 3) (ma 2) R (f - 1) s)) = K29 [some (.ref a), some (.int (iI R)), some (.int (iI (f - 1))), some (.int (iI t))] [] (mHR h a mf ma (l0 ++ lRow (mf 2) (mf 3) (ma 2) R (f - 1) t)) := by
  have s2 := sz.2
  refine fix_ms (B := cm_X9_layRuns_40 N K7 K17 K29) (fun t : Nat => [some (.ref a), some (.int (iI R)), some (.int (iI (f - 1))), some (.int (iI t)), some (.int (iI s))]) (fun _ => mHR h a mf ma (l0 ++ lRow (mf 2) (mf 3) (ma 2) R (f - 1) s)) (fun t => s ≤ t ∧ (t : Int) ≤ mf 3 ∧ aR (fun s => sRunS (mf 2) (mf 3) (ma 2) R s (f - 1)) t = ((aR (fun s => sRunS (mf 2) (mf 3) (ma 2) R s (f - 1)) s).1, t - s)) (fun t => (mf 3).toNat - t) (fun x => ∃ t : Nat, s < t ∧ t ≤ (mf 3).toNat + 1 ∧ (aR (fun s => sRunS (mf 2) (mf 3) (ma 2) R s (f - 1)) t).2 = 0 ∧ x = K29 [some (.ref a), some (.int (iI R)), some (.int (iI (f - 1))), some (.int (iI t))] [] (mHR h a mf ma (l0 ++ lRow (mf 2) (mf 3) (ma 2) R (f - 1) t))) ?_ N s ⟨by omega, by omega, ?_⟩ (by omega)
  · intro K t ht
    obtain ⟨t1, t2, t3⟩ := ht
    have cr := c_isRunSite (N := N) (h := h) (a := a) (mf := mF mf 18 (l0 ++ lRow (mf 2) (mf 3) (ma 2) R (f - 1) s).length) (ma := mRuns ma (l0 ++ lRow (mf 2) (mf 3) (ma 2) R (f - 1) s)) (R := R) (S := t) (F := f - 1) hN (by rw [mRuns_n (by omega)]; exact ok) sz (by omega) (by omega) (by omega)
    rw [mRuns_n (by omega), mF_n (by decide), mF_n (by decide)] at cr
    rw [mHR, eq_X9_layRuns_40, if_pos m_isc, cr, Option.bind_some]
    dsimp only
    by_cases q : sRunS (mf 2) (mf 3) (ma 2) R t (f - 1) = true
    · right
      have tlt : (t : Int) < mf 3 := by
        rcases Int.lt_or_le (t : Int) (mf 3) with z | z
        · exact z
        · rw [sRunS_end z] at q
          cases q
      refine ⟨t + 1, ⟨by omega, by omega, ?_⟩, by omega, ?_⟩
      · rw [aR, if_pos q, t3]
        dsimp only
        congr 1
        omega
      · rw [if_neg (by rw [q]; exact tb1), iI_add]
        rfl
    · left
      have q' : sRunS (mf 2) (mf 3) (ma 2) R t (f - 1) = false := by simpa using q
      have hz : (aR (fun s => sRunS (mf 2) (mf 3) (ma 2) R s (f - 1)) (t + 1)).2 = 0 := by
        rw [aR, if_neg q]
      refine ⟨t + 1, by omega, by omega, hz, ?_⟩
      have el := lRow_s q'
      have ls : lRow (mf 2) (mf 3) (ma 2) R (f - 1) t = lRow (mf 2) (mf 3) (ma 2) R (f - 1) s := by
        unfold lRow
        rw [t3]
      rw [t3, ls] at el
      dsimp only at el
      have hlt := hl (t + 1) (by omega)
      rw [if_pos (by rw [q']; rfl)]
      have ei : ((t + 1 : Nat) : Int) = (t : Int) + 1 := by omega
      by_cases q2 : t = s
      · subst q2
        rw [if_pos ((iI_le ⟨by omega, by omega⟩ ⟨by omega, by omega⟩).mpr (Int.le_refl _)), eq_X9_layRuns_116, iI_add, ei, el, if_pos (by omega)]
        rfl
      · rw [if_neg (by omega)] at el
        rw [el, List.length_append] at hlt
        simp only [List.length_cons, List.length_nil] at hlt
        have en : ((l0 ++ lRow (mf 2) (mf 3) (ma 2) R (f - 1) s).length : Int) = (l0.length : Int) + (lRow (mf 2) (mf 3) (ma 2) R (f - 1) s).length := by rw [List.length_append]; omega
        generalize hl' : l0 ++ lRow (mf 2) (mf 3) (ma 2) R (f - 1) s = l at en
        have app := mRuns_app ma l ((R : Int), (f : Int) - 1, (s : Int), (t : Int) - s)
        dsimp only at app
        rw [if_neg (fun z => by have := (iI_le ⟨by omega, by omega⟩ ⟨by omega, by omega⟩).mp z; omega), m_r14, Option.bind_some, m_g18, Option.bind_some, mF_s, m_s14 (by omega) (by omega), Option.bind_some, mU_mA, mRuns_8, m_r15, Option.bind_some, m_g18, Option.bind_some, mF_s, m_s15 (by omega) (by omega), Option.bind_some, mU_mA, mA_n (by decide), mRuns_9, m_r16, Option.bind_some, m_g18, Option.bind_some, mF_s, m_s16 (by omega) (by omega), Option.bind_some, mU_mA, mA_n (by decide), mA_n (by decide), mRuns_10, m_r17, Option.bind_some, m_g18, Option.bind_some, mF_s, iI_sub, m_s17 (by omega) (by omega), Option.bind_some, mU_mA, mA_n (by decide), mA_n (by decide), mA_n (by decide), mRuns_11, m_g18, Option.bind_some, mF_s, eq_X9_layRuns_113, iI_add, m_p18, Option.bind_some, eq_X9_layRuns_116, app, iI_add, ei, el, ← List.append_assoc, hl', mHR]
        have e1 : (((t - (t - s) : Nat)) : Int) = s := by omega
        have e2 : (((t - s : Nat)) : Int) = (t : Int) - s := by omega
        have e3 : ((l ++ [((R : Int), (f : Int) - 1, (s : Int), (t : Int) - s)]).length : Int) = l.length + 1 := by
          rw [List.length_append]
          simp only [List.length_cons, List.length_nil]
          omega
        rw [e1, e2, e3]
        congr 2
        funext k
        by_cases ek : k = 18 <;> simp [mF, ek]
  · rw [show s - s = 0 by omega]
    exact Prod.ext rfl h0
theorem c_lay29 {R f : Nat} (K7 K17 : ka_K ka_H) (l0 : List (Int × Int × Int × Int)) (hN : 5000 ≤ N) (ok : rOk (ma 2)) (sz : mSz mf) (hR : R ≤ 100) (hf : f ≤ 100) (hl : ∀ t : Nat, t ≤ (mf 3).toNat + 1 → (l0.length : Int) + (lRow (mf 2) (mf 3) (ma 2) R (f - 1) t).length ≤ 256) :
    ki_fix (cm_X9_layRuns_29 N K7 K17) N [some (.ref a), some (.int (iI R)), some (.int (iI (f - 1))), some (.int (iI 0))] [] (mHR h a mf ma l0) = K17 [some (.ref a), some (.int (iI R)), some (.int (iI f))] [] (mHR h a mf ma (l0 ++ lRow (mf 2) (mf 3) (ma 2) R (f - 1) ((mf 3).toNat + 1))) := by
  have s2 := sz.2
  have key := fix_ms (B := cm_X9_layRuns_29 N K7 K17) (fun t : Nat => [some (.ref a), some (.int (iI R)), some (.int (iI (f - 1))), some (.int (iI t))]) (fun t => mHR h a mf ma (l0 ++ lRow (mf 2) (mf 3) (ma 2) R (f - 1) t)) (fun t => t ≤ (mf 3).toNat + 1 ∧ (aR (fun s => sRunS (mf 2) (mf 3) (ma 2) R s (f - 1)) t).2 = 0) (fun t => (mf 3).toNat + 1 - t) (fun x => x = K17 [some (.ref a), some (.int (iI R)), some (.int (iI f))] [] (mHR h a mf ma (l0 ++ lRow (mf 2) (mf 3) (ma 2) R (f - 1) ((mf 3).toNat + 1)))) ?_ N 0 ⟨by omega, rfl⟩ (by omega)
  · simp only [lRow, aR, List.map_nil, List.append_nil, Int.natCast_zero] at key
    exact key
  · intro K t ht
    obtain ⟨t1, t2⟩ := ht
    have ef : (f : Int) - 1 + 1 = f := by omega
    by_cases q : (t : Int) < mf 3
    · right
      obtain ⟨t', x1, x2, x3, x4⟩ := c_lay40 (h := h) (a := a) K7 K17 K l0 hN ok sz hR hf q t2 hl
      refine ⟨t', ⟨x2, x3⟩, by omega, ?_⟩
      rw [← x4]
      unfold mHR
      rw [eq_X9_layRuns_29, m_g3, Option.bind_some, mF_n (by decide), if_neg (fun z => by have := (iI_le ⟨by omega, by omega⟩ ⟨by omega, by omega⟩).mp z; omega)]
    · left
      have el : lRow (mf 2) (mf 3) (ma 2) R (f - 1) t = lRow (mf 2) (mf 3) (ma 2) R (f - 1) ((mf 3).toNat + 1) := by
        by_cases e : t = (mf 3).toNat + 1
        · rw [e]
        · have e2 : t = (mf 3).toNat := by omega
          have := lRow_s (rows := mf 2) (sites := mf 3) (r := ma 2) (R := R) (F := f - 1) (s := t) (sRunS_end (by omega))
          rw [t2, if_pos rfl] at this
          rw [← e2, this]
      rw [el]
      unfold mHR
      rw [eq_X9_layRuns_29, m_g3, Option.bind_some, mF_n (by decide), if_pos ((iI_le ⟨by omega, by omega⟩ ⟨by omega, by omega⟩).mpr (by omega)), iI_add, ef]
theorem c_lay17 {R : Nat} (K7 : ka_K ka_H) (hN : 5000 ≤ N) (ok : rOk (ma 2)) (sz : mSz mf) (hR : R < 8) :
    ki_fix (cm_X9_layRuns_17 N K7) N [some (.ref a), some (.int (iI R)), some (.int (iI (-1)))] [] (mHR h a mf ma (lAll (mf 2) (mf 3) (ma 2) R)) = K7 [some (.ref a), some (.int (iI (R + 1)))] [] (mHR h a mf ma (lAll (mf 2) (mf 3) (ma 2) (R + 1))) := by
  have s2 := sz.2
  have g1 := ok.2.2.1
  have key := fix_up (B := cm_X9_layRuns_17 N K7) (R := K7 [some (.ref a), some (.int (iI (R + 1)))] [] (mHR h a mf ma (lAll (mf 2) (mf 3) (ma 2) (R + 1)))) (fun i => [some (.ref a), some (.int (iI R)), some (.int (iI (i - 1)))]) (fun i => mHR h a mf ma (lAll (mf 2) (mf 3) (ma 2) R ++ lRowN (mf 2) (mf 3) (ma 2) R i)) ((ma 2 1).toNat + 1) ?_ ?_ N 0 (by omega) (by omega)
  · simp only [lRowN, List.append_nil] at key
    exact key
  · intro K
    unfold mHR
    rw [eq_X9_layRuns_17, m_r6, Option.bind_some, m_l6 (by omega) (by omega), Option.bind_some, mRuns_n (by omega), if_pos ((iI_le ⟨by omega, by omega⟩ ⟨by omega, by omega⟩).mpr (by omega)), iI_add]
    rfl
  · intro K i hi
    have cl := c_lay29 (N := N) (h := h) (a := a) (mf := mf) (ma := ma) (R := R) (f := i) K7 K (lAll (mf 2) (mf 3) (ma 2) R ++ lRowN (mf 2) (mf 3) (ma 2) R i) hN ok sz (by omega) (by omega) (by
      intro t ht
      have x1 := row_cnt (mf 2) (mf 3) (ma 2) R i t (by omega) ht
      have x2 := all_cnt (mf 2) (mf 3) (ma 2) R (by omega)
      have x3 : mf 3 * R ≤ 32 * 7 := Int.mul_le_mul s2.2 (by omega) (by omega) (by omega)
      rw [List.length_append]
      omega)
    rw [mHR, eq_X9_layRuns_17, m_r6, Option.bind_some, m_l6 (by omega) (by omega), Option.bind_some, mRuns_n (by omega), if_neg (fun z => by have := (iI_le ⟨by omega, by omega⟩ ⟨by omega, by omega⟩).mp z; omega)]
    rw [mHR] at cl
    rw [cl, List.append_assoc, show ((i + 1 : Nat) : Int) - 1 = i by omega]
    rfl
theorem c_layRuns (hN : 5000 ≤ N) (ok : rOk (ma 2)) (sz : mSz mf) : fm_X9_layRuns N [.ref a] (mH h a mf ma) = some (mHR h a mf ma (lAll (mf 2) (mf 3) (ma 2) (mf 2).toNat)) := by
  have s1 := sz.1
  rw [en_X9_layRuns, eq_X9_layRuns_0, m_p18, Option.bind_some]
  have key := fix_up (B := cm_X9_layRuns_7 N) (R := some (mHR h a mf ma (lAll (mf 2) (mf 3) (ma 2) (mf 2).toNat))) (fun i => [some (.ref a), some (.int (iI i))]) (fun i => mHR h a mf ma (lAll (mf 2) (mf 3) (ma 2) i)) (mf 2).toNat ?_ ?_ N 0 (by omega) (by omega)
  · simp only [lAll, mHR, mRuns_nil, List.length_nil] at key
    exact key
  · intro K
    unfold mHR
    rw [eq_X9_layRuns_7, m_g2, Option.bind_some, mF_n (by decide), if_pos ((iI_le ⟨by omega, by omega⟩ ⟨by omega, by omega⟩).mpr (by omega))]
  · intro K i hi
    have cl := c_lay17 (N := N) (h := h) (a := a) (mf := mf) (ma := ma) (R := i) K hN ok sz (by omega)
    rw [mHR, eq_X9_layRuns_7, m_g2, Option.bind_some, mF_n (by decide), if_neg (fun z => by have := (iI_le ⟨by omega, by omega⟩ ⟨by omega, by omega⟩).mp z; omega)]
    rw [mHR] at cl
    rw [cl]
    rfl
end M32
