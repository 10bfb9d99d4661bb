/-! ===== the model: more that is told ===== -/
theorem sFR_cnt (A B : Int → Int) (R F I : Int) (k : Nat) : (sFR A B R F I k).1 = (sFR A B R F 0 k).1 ∧ ((sFR A B R F I k).2 = -1 ↔ ¬ (0 ≤ I ∧ I < (sFR A B R F 0 k).1)) := by
  induction k with
  | zero => simp [sFR]
  | succ k ih =>
    have b := sFR_b A B R F 0 k
    obtain ⟨i1, i2⟩ := ih
    rw [sFR, sFR]
    by_cases q : A k = R ∧ B k = F
    · rw [if_pos q, if_pos q]
      dsimp only
      rw [i1]
      refine ⟨rfl, ?_⟩
      by_cases e : (sFR A B R F 0 k).1 = I
      · rw [if_pos e]
        constructor
        · intro z; omega
        · intro z; omega
      · rw [if_neg e, i2]
        constructor
        · intro z; omega
        · intro z; omega
    · rw [if_neg q, if_neg q]
      exact ⟨i1, i2⟩
def sFq (w g : Int) : Int := if w = 4 then g / 4 else if w = 2 then g % 4 / 2 else g % 2
/-- fillers of a run so far, the gap that is open -/
def sFl (r : Int → Int) (w R fi lo n : Int) : Nat → Int × Int
  | 0 => (n, 0)
  | s + 1 => if (s : Int) < lo ∧ sCel r R (fi + s) (-1) false = -1 then ((sFl r w R fi lo n s).1, (sFl r w R fi lo n s).2 + 1) else ((sFl r w R fi lo n s).1 + sFq w (sFl r w R fi lo n s).2, 0)
def sFls (r : Int → Int) (w : Int) (L : List (Int × Int × Int × Int)) : Nat → Int
  | 0 => 0
  | k + 1 => match L[k]? with
    | none => sFls r w L k
    | some x => (sFl r w x.1 x.2.2.1 x.2.2.2 (sFls r w L k) (x.2.2.2.toNat + 1)).1
theorem sFl_b (r : Int → Int) (w R fi lo n : Int) (k : Nat) : 0 ≤ (sFl r w R fi lo n k).2 ∧ (sFl r w R fi lo n k).2 ≤ k := by
  induction k with
  | zero => simp [sFl]
  | succ k ih =>
    rw [sFl]
    split
    · dsimp only; omega
    · dsimp only; omega
section M50
variable {N : Nat} {h : ka_H} {a : Nat} {mf : Nat → Int} {ma : Nat → Int → Int}
theorem c_cellOf {c w : Int} (hN : 5000 ≤ N) (v : vOk (ma 2)) (hc : -2147483648 ≤ c ∧ c < 2147483648) (hw : -2147483648 ≤ w ∧ w < 2147483648) : fm_X9_cellOf N [.ref a, .int (iI c), .int (iI w)] (mH h a mf ma) = some (iI (if vIn c 0 (ma 2 2 - 1) = true then (if vIn w 0 6 = true then ma 2 (36 + 7 * c + w) else if w = 7 then sNts (ma 2) c else if w = 8 ∧ sHas (ma 2) c.toNat = true then sMove (ma 1 4) (ma 2) c else -1) else -1), mH h a (mF mf 0 0) ma) := by
  have g2 := v.1.2.2.2.1
  have g3 := v.1.2.2.2.2.1
  rw [en_X9_cellOf, eq_X9_cellOf_0, m_p0, Option.bind_some, if_pos m_isc, c_isCell hc v.1.1, Option.bind_some]
  dsimp only
  by_cases q1 : vIn c 0 (ma 2 2 - 1) = true
  · have b1 := of_decide_eq_true q1
    obtain ⟨d, rfl⟩ : ∃ d : Nat, c = d := ⟨c.toNat, by omega⟩
    rw [if_pos (c := ¬ (if vIn d 0 (ma 2 2 - 1) = true then iI 1 else iI 0) = iI 0) (by rw [q1]; exact tb1), if_pos q1, Int.toNat_natCast]
    refine fix_up (fun i => [some (.ref a), some (.int (iI d)), some (.int (iI w)), some (.int (iI (aS (fun n => if sPO (ma 2) n d = -1 then 0 else 1) i))), some (.int (iI i))]) (fun _ => mH h a (mF mf 0 0) ma) (ma 2 3).toNat ?_ ?_ N 0 (by omega) (by omega)
    · intro K
      rw [eq_X9_cellOf_20, m_r6, Option.bind_some, m_l6 (by omega) (by omega), Option.bind_some, if_pos ((iI_le ⟨by omega, by omega⟩ ⟨by omega, by omega⟩).mpr (by omega)), iI_long hw.1 hw.2, c_in (by omega) (by omega) (by omega) (by omega) (by omega) (by omega), Option.bind_some]
      dsimp only
      by_cases q2 : vIn w 0 6 = true
      · have b2 := of_decide_eq_true q2
        rw [if_neg (c := (if vIn w 0 6 = true then iI 1 else iI 0) = iI 0) (by rw [q2]; exact tb1), if_pos q2, m_r6, Option.bind_some, c_cellAt, Option.bind_some]
        dsimp only
        rw [iI_add, m_l6 (by omega) (by omega), Option.bind_some, eq_X9_cellOf_115]
      · rw [if_pos (c := (if vIn w 0 6 = true then iI 1 else iI 0) = iI 0) (by simp [q2]), if_neg q2]
        by_cases q3 : w = 7
        · subst q3
          rw [if_neg (fun z => z rfl), if_pos rfl, eq_X9_cellOf_115]
          rfl
        · rw [if_pos (c := ¬ iI w = iI 7) (by rw [iI_eq ⟨by omega, by omega⟩ ⟨by omega, by omega⟩]; exact q3), if_neg q3]
          by_cases q4 : w = 8
          · subst q4
            rw [if_neg (fun z => z rfl), if_pos m_isc, c_hasSpot (by omega) v.1.1, Option.bind_some]
            dsimp only
            by_cases q5 : sHas (ma 2) d = true
            · rw [if_neg (c := (if sHas (ma 2) d = true then iI 1 else iI 0) = iI 0) (by rw [q5]; exact tb1), if_pos (And.intro rfl q5), if_pos m_isc, c_moveOf v.1 (by omega) (by omega), Option.bind_some, eq_X9_cellOf_115]
            · rw [if_pos (c := (if sHas (ma 2) d = true then iI 1 else iI 0) = iI 0) (by simp [q5]), if_neg (fun z => q5 z.2), eq_X9_cellOf_114, eq_X9_cellOf_115]
          · rw [if_pos (c := ¬ iI w = iI 8) (by rw [iI_eq ⟨by omega, by omega⟩ ⟨by omega, by omega⟩]; exact q4), if_neg (fun z => q4 z.1), eq_X9_cellOf_114, eq_X9_cellOf_115]
    · intro K i hi
      have ei : ((i + 1 : Nat) : Int) = (i : Int) + 1 := by omega
      have k1 := (v.2.1 i (by omega) (by omega)).1
      have bp : -1 ≤ sPO (ma 2) i d ∧ sPO (ma 2) i d < 6 := by
        have := aL_range (p := fun k => decide (sWho (ma 2) i k = d)) (n := (ma 2 (176 + 14 * i + 1)).toNat)
        unfold sPO
        omega
      rw [eq_X9_cellOf_20, m_r6, Option.bind_some, m_l6 (by omega) (by omega), Option.bind_some, if_neg (fun z => by have := (iI_le ⟨by omega, by omega⟩ ⟨by omega, by omega⟩).mp z; omega), if_pos m_isc, c_pinOf hN v (by omega) (by omega) (by omega), Option.bind_some, aS, ei]
      dsimp only
      by_cases q : sPO (ma 2) i d = -1
      · rw [if_pos (by rw [q]), if_pos q, eq_X9_cellOf_48, iI_add, iI_add]
      · rw [if_neg (by rw [iI_eq ⟨by omega, by omega⟩ ⟨by omega, by omega⟩]; exact q), if_neg q, eq_X9_cellOf_48, iI_add, iI_add]
  · rw [if_neg (c := ¬ (if vIn c 0 (ma 2 2 - 1) = true then iI 1 else iI 0) = iI 0) (by simp [q1]), if_neg q1]
theorem c_isRunKind {R F : Int} (ok : rOk (ma 2)) (sz : mSz mf) (hR : -2147483648 ≤ R ∧ R < 2147483648) (hF : -2147483648 ≤ F ∧ F < 2147483648) : fm_X9_isRunKind N [.ref a, .int (iI R), .int (iI F)] (mH h a mf ma) = some (vIn R 0 (mf 2 - 1) && vIn F (-1) (ma 2 1 - 1), mH h a mf ma) := by
  have s1 := sz.1
  have g1 := ok.2.2.1
  rw [en_X9_isRunKind, eq_X9_isRunKind_0, m_g2, Option.bind_some, iI_long hR.1 hR.2, iI_long (by omega) (by omega), lI_sub, c_in (by omega) (by omega) (by omega) (by omega) (by omega) (by omega), Option.bind_some, eq_X9_isRunKind_33, eq_X9_isRunKind_34, if_pos rfl, eq_X9_isRunKind_29, eq_X9_isRunKind_34, if_neg (c := iI 1 = iI 0) (by decide), if_pos rfl]
  dsimp only
  by_cases q1 : vIn R 0 (mf 2 - 1) = true
  · rw [if_neg (c := (if vIn R 0 (mf 2 - 1) = true then iI 1 else iI 0) = iI 0) (by rw [q1]; exact tb1), q1, Bool.true_and]
    by_cases q2 : F = -1
    · subst q2
      have e3 : vIn (-1) (-1) (ma 2 1 - 1) = true := decide_eq_true (by omega)
      rw [if_pos rfl, e3]
    · rw [if_neg (by rw [iI_eq ⟨by omega, by omega⟩ ⟨by omega, by omega⟩]; exact q2), if_pos m_isc, c_isFence hF ok.1, Option.bind_some]
      dsimp only
      have e3 : vIn F 0 (ma 2 1 - 1) = vIn F (-1) (ma 2 1 - 1) := by
        unfold vIn
        by_cases q : 0 ≤ F ∧ F ≤ ma 2 1 - 1
        · rw [decide_eq_true q, decide_eq_true (by omega)]
        · rw [decide_eq_false q, decide_eq_false (by omega)]
      rw [e3, eq_X9_isRunKind_33, eq_X9_isRunKind_34, if_pos rfl, eq_X9_isRunKind_29, eq_X9_isRunKind_34, if_neg (c := iI 1 = iI 0) (by decide), if_pos rfl]
      by_cases q3 : vIn F (-1) (ma 2 1 - 1) = true <;> simp [q3, iI_10]
  · have q1' : vIn R 0 (mf 2 - 1) = false := by simpa using q1
    rw [q1', if_pos (by rfl), Bool.false_and]
/-- how many runs of a row and a fence there are in all -/
def sRns (L : List (Int × Int × Int × Int)) (R F : Int) : Int := (sFR (rList (L.map (·.1)) (fun _ => 0)) (rList (L.map (·.2.1)) (fun _ => 0)) R F 0 L.length).1
theorem sFR_congr {A B A' B' : Int → Int} {R F I : Int} (n : Nat) (h : ∀ k : Nat, k < n → A k = A' k ∧ B k = B' k) : sFR A B R F I n = sFR A' B' R F I n := by
  induction n with
  | zero => rfl
  | succ n ih =>
    have := h n (by omega)
    rw [sFR, sFR, ih (fun k hk => h k (by omega)), this.1, this.2]
theorem rList_g {l : List Int} {g g' : Int → Int} {k : Nat} (h : k < l.length) : rList l g k = rList l g' k := by rw [rList_at h, rList_at h]
theorem c_runs {R F : Int} (hN : 5000 ≤ N) (ok : rOk (ma 2)) (sz : mSz mf) (hR : -2147483648 ≤ R ∧ R < 2147483648) (hF : -2147483648 ≤ F ∧ F < 2147483648) :
    ∃ mf' ma', mNilP mf ma mf' ma' ∧ fm_X9_runs N [.ref a, .int (iI R), .int (iI F)] (mH h a mf ma) = some (iI (if (vIn R 0 (mf 2 - 1) && vIn F (-1) (ma 2 1 - 1)) = true then sRns (lAll (mf 2) (mf 3) (ma 2) (mf 2).toNat) R F else -1), mH h a mf' ma') := by
  have hL := lAll_lOk (r := ma 2) ok sz.1 sz.2
  have sz0 : mSz (mF mf 0 0) := sz
  have e2 : mF mf 0 0 2 = mf 2 := rfl
  have e3 : mF mf 0 0 3 = mf 3 := rfl
  rw [en_X9_runs, eq_X9_runs_0, m_p0, Option.bind_some, if_pos m_isc, c_isRunKind ok sz0 hR hF, Option.bind_some, e2]
  dsimp only
  by_cases q : (vIn R 0 (mf 2 - 1) && vIn F (-1) (ma 2 1 - 1)) = true
  · have lr := c_layRuns (N := N) (h := h) (a := a) (mf := mF mf 0 0) (ma := ma) hN ok sz0
    rw [e2, e3] at lr
    generalize hLL : lAll (mf 2) (mf 3) (ma 2) (mf 2).toNat = L at hL lr
    have l1 := hL.1
    rw [if_pos (c := ¬ (if (vIn R 0 (mf 2 - 1) && vIn F (-1) (ma 2 1 - 1)) = true then iI 1 else iI 0) = iI 0) (by rw [q]; exact tb1), if_pos q, if_pos m_isc, lr, Option.bind_some, mHR]
    have rn := mRun_lay (mF mf 0 0) ma L
    refine ⟨mF (mF mf 0 0) 18 L.length, mRuns ma L, ⟨⟨rfl, rfl, rfl, rfl, rfl, rfl⟩, mRuns_n (by omega), mRuns_n (by omega), mRuns_n (by omega), mRuns_n (by omega), mRuns_n (by omega), mRuns_n (by omega)⟩, ?_⟩
    generalize hmf : mF (mF mf 0 0) 18 L.length = mf1 at rn
    generalize hma : mRuns ma L = ma1 at rn
    have bA : ∀ k, 0 ≤ k → k < mf1 18 → (-1 ≤ ma1 8 k ∧ ma1 8 k ≤ 600) ∧ (-1 ≤ ma1 9 k ∧ ma1 9 k ≤ 600) := by
      intro k k0 k1
      rw [rn.1] at k1
      obtain ⟨j, rfl⟩ : ∃ j : Nat, k = j := ⟨k.toNat, by omega⟩
      obtain ⟨x8, x9, _, _⟩ := rn.2 j (L[j]'(by omega)) (List.getElem?_eq_getElem (by omega))
      have hx := hL.2 _ (List.getElem_mem (l := L) (n := j) (by omega))
      omega
    have ef : ∀ I, sFR (ma1 8) (ma1 9) R F I L.length = sFR (rList (L.map (·.1)) (fun _ => 0)) (rList (L.map (·.2.1)) (fun _ => 0)) R F I L.length := by
      intro I
      refine sFR_congr _ (fun k hk => ?_)
      obtain ⟨x8, x9, _, _⟩ := rn.2 k (L[k]'hk) (List.getElem?_eq_getElem hk)
      rw [x8, x9, rIs_at (fun x => x.1) (List.getElem?_eq_getElem hk), rIs_at (fun x => x.2.1) (List.getElem?_eq_getElem hk)]
      exact ⟨rfl, rfl⟩
    have en : (mf1 18).toNat = L.length := by rw [rn.1]; omega
    unfold sRns
    have key := fix_up (B := cm_X9_runs_22 N) (R := some (iI (sFR (rList (L.map (·.1)) (fun _ => 0)) (rList (L.map (·.2.1)) (fun _ => 0)) R F 0 L.length).1, mH h a mf1 ma1)) (fun i => [some (.ref a), some (.int (iI R)), some (.int (iI F)), some (.int (iI i))]) (fun _ => mH h a mf1 ma1) (sFR (rList (L.map (·.1)) (fun _ => 0)) (rList (L.map (·.2.1)) (fun _ => 0)) R F 0 L.length).1.toNat ?_ ?_ N 0 (by omega) (by have := sFR_b (rList (L.map (·.1)) (fun _ => 0)) (rList (L.map (·.2.1)) (fun _ => 0)) R F 0 L.length; omega)
    · exact key
    · intro K
      have b := sFR_b (rList (L.map (·.1)) (fun _ => 0)) (rList (L.map (·.2.1)) (fun _ => 0)) R F 0 L.length
      generalize hct : (sFR (rList (L.map (·.1)) (fun _ => 0)) (rList (L.map (·.2.1)) (fun _ => 0)) R F 0 L.length).1 = ct at b
      have ec : ((ct.toNat : Nat) : Int) = ct := by omega
      rw [ec]
      have f1 := c_findRun (N := N) (h := h) (a := a) (mf := mf1) (ma := ma1) (R := R) (F := F) (I := ct) hN (by rw [rn.1]; omega) (fun k k0 k1 => (bA k k0 k1).1) (fun k k0 k1 => (bA k k0 k1).2) hR hF (by omega)
      rw [en, ef] at f1
      have z := (sFR_cnt (rList (L.map (·.1)) (fun _ => 0)) (rList (L.map (·.2.1)) (fun _ => 0)) R F ct L.length).2.mpr (by rw [hct]; omega)
      rw [z] at f1
      rw [eq_X9_runs_22, if_pos m_isc, f1, Option.bind_some]
      dsimp only
      rw [if_pos rfl]
    · intro K i hi
      have b := sFR_b (rList (L.map (·.1)) (fun _ => 0)) (rList (L.map (·.2.1)) (fun _ => 0)) R F 0 L.length
      have f1 := c_findRun (N := N) (h := h) (a := a) (mf := mf1) (ma := ma1) (R := R) (F := F) (I := i) hN (by rw [rn.1]; omega) (fun k k0 k1 => (bA k k0 k1).1) (fun k k0 k1 => (bA k k0 k1).2) hR hF (by omega)
      rw [en, ef] at f1
      have bI := sFR_b (rList (L.map (·.1)) (fun _ => 0)) (rList (L.map (·.2.1)) (fun _ => 0)) R F i L.length
      have nz : (sFR (rList (L.map (·.1)) (fun _ => 0)) (rList (L.map (·.2.1)) (fun _ => 0)) R F i L.length).2 ≠ -1 := by
        intro z
        have := (sFR_cnt (rList (L.map (·.1)) (fun _ => 0)) (rList (L.map (·.2.1)) (fun _ => 0)) R F i L.length).2.mp z
        omega
      rw [eq_X9_runs_22, if_pos m_isc, f1, Option.bind_some]
      dsimp only
      rw [if_neg (by rw [iI_eq ⟨by omega, by omega⟩ ⟨by omega, by omega⟩]; exact nz), iI_add]
      rfl
  · rw [if_neg (c := ¬ (if (vIn R 0 (mf 2 - 1) && vIn F (-1) (ma 2 1 - 1)) = true then iI 1 else iI 0) = iI 0) (by rw [iI_zb]; simpa using q), if_neg q]
    exact ⟨mF mf 0 0, ma, ⟨⟨rfl, rfl, rfl, rfl, rfl, rfl⟩, rfl, rfl, rfl, rfl, rfl, rfl⟩, rfl⟩
end M50
