/-! ===== the model: measure, run, fillers ===== -/
theorem sOvf_congr {t rows sites : Int} {r u u' : Int → Int} (h : ∀ b, 0 ≤ b → b < sBins rows sites → u b = u' b) : sOvf t rows sites r u = sOvf t rows sites r u' := by
  unfold sOvf
  refine aS_congr (fun k hk => ?_)
  exact sOver_u (h k (by omega) (by omega))
def sMea (t : Int → Int) (rows sites : Int) (r : Int → Int) (w : Int) : Int := if w = 0 then sWire (t 4) r else if w = 1 then sSms (t 4) (t 0) r else if w = 2 then sOvf (t 1) rows sites r (sSup rows sites r) else if w = 3 then sCost t rows sites r (sSup rows sites r) else if w = 4 then sSpM (t 4) r else if w = 5 then sWoS r else if vIn w 6 8 = true then (if w = 6 then (sCrd (t 5) sites r (sBins rows sites).toNat).1 else if w = 7 then (sCrd (t 5) sites r (sBins rows sites).toNat).2.1 else (sCrd (t 5) sites r (sBins rows sites).toNat).2.2) else -1
section M52
variable {N : Nat} {h : ka_H} {a : Nat} {mf : Nat → Int} {ma : Nat → Int → Int}
theorem c_measure {w : Int} (hN : 5000 ≤ N) (v : vOk (ma 2)) (sz : mSz mf) (tm : tmOk (ma 1)) (hw : -2147483648 ≤ w ∧ w < 2147483648) : ∃ ma', mNilP mf ma (mF mf 0 0) ma' ∧ fm_X9_measure N [.ref a, .int (iI w)] (mH h a mf ma) = some (iI (sMea (ma 1) (mf 2) (mf 3) (ma 2) w), mH h a (mF mf 0 0) ma') := by
  have sz0 : mSz (mF mf 0 0) := sz
  have e2 : mF mf 0 0 2 = mf 2 := rfl
  have e3 : mF mf 0 0 3 = mf 3 := rfl
  rw [show fm_X9_measure N [.ref a, .int (iI w)] (mH h a mf ma) = cm_X9_measure_0 N [some (.ref a), some (.int (iI w))] [] (mH h a mf ma) from rfl]
  rw [show cm_X9_measure_0 N [some (.ref a), some (.int (iI w))] [] (mH h a mf ma) = (ka_pf (mH h a mf ma) [11] a 0 (.int (iI 0))).bind (fun h1 => if ka_isc h1 [11] a = true then (fm_X9_laySupply N [.ref a] h1).bind (fun r3 => ki_tab 0 _ _ [some (.ref a), some (.int (iI w))] [.int (iI w)] r3) else none) from rfl]
  rw [m_p0, Option.bind_some, if_pos m_isc, c_laySupply hN v.1 sz0, Option.bind_some, e2, e3]
  generalize hu : rCp (sSup (mf 2) (mf 3) (ma 2)) (ma 24) 0 0 (sBins (mf 2) (mf 3)) = u
  have hub : ∀ b, 0 ≤ b → b < sBins (mf 2) (mf 3) → u b = sSup (mf 2) (mf 3) (ma 2) b := by
    intro b x1 x2
    rw [← hu, rCp_00 x1 x2]
  have hu4 : ∀ b, 0 ≤ b → b < sBins (mf 2) (mf 3) → 0 ≤ u b ∧ u b ≤ 4096 := by
    intro b x1 x2
    rw [hub b x1 x2]
    exact sSup_b _ _ _ _
  refine ⟨mA ma 24 u, ⟨⟨rfl, rfl, rfl, rfl, rfl, rfl⟩, mA_n (by decide), mA_n (by decide), mA_n (by decide), mA_n (by decide), mA_n (by decide), mA_n (by decide)⟩, ?_⟩
  have v1 : vOk (mA ma 24 u 2) := by rw [mA_n (by decide)]; exact v
  have tm1 : tmOk (mA ma 24 u 1) := by rw [mA_n (by decide)]; exact tm
  have f1 : mA ma 24 u 1 = ma 1 := mA_n (by decide)
  have f2 : mA ma 24 u 2 = ma 2 := mA_n (by decide)
  have f24 : mA ma 24 u 24 = u := mA_2 _ _ _
  have cs : w = 0 ∨ w = 1 ∨ w = 2 ∨ w = 3 ∨ w = 4 ∨ w = 5 ∨ (w < 0 ∨ 6 ≤ w) := by omega
  rcases cs with e | e | e | e | e | e | e
  · subst e
    have c1 := c_wire (N := N) (h := h) (a := a) (mf := mF mf 0 0) (ma := mA ma 24 u) hN v1.1 v1.2.1
    rw [f1, f2] at c1
    rw [tab_k (by omega) (by omega) rfl]
    show (if ka_isc (mH h a (mF mf 0 0) (mA ma 24 u)) [11] a = true then (fm_X9_wire N [.ref a] (mH h a (mF mf 0 0) (mA ma 24 u))).bind (fun r => some (r.1, r.2)) else none) = _
    rw [if_pos m_isc, c1]
    rfl
  · subst e
    have c1 := c_smooths (N := N) (h := h) (a := a) (mf := mF mf 0 0) (ma := mA ma 24 u) hN v1.1 v1.2.1 tm1
    rw [f1, f2] at c1
    rw [tab_k (by omega) (by omega) rfl]
    show (if ka_isc (mH h a (mF mf 0 0) (mA ma 24 u)) [11] a = true then (fm_X9_smooths N [.ref a] (mH h a (mF mf 0 0) (mA ma 24 u))).bind (fun r => some (r.1, r.2)) else none) = _
    rw [if_pos m_isc, c1]
    rfl
  · subst e
    have c1 := c_overflow (N := N) (h := h) (a := a) (mf := mF mf 0 0) (ma := mA ma 24 u) hN v1.1 sz0 tm1 (by rw [f24]; exact hu4)
    rw [f1, f2, f24, e2, e3, sOvf_congr hub] at c1
    rw [tab_k (by omega) (by omega) rfl]
    show (if ka_isc (mH h a (mF mf 0 0) (mA ma 24 u)) [11] a = true then (fm_X9_overflow N [.ref a] (mH h a (mF mf 0 0) (mA ma 24 u))).bind (fun r => some (r.1, r.2)) else none) = _
    rw [if_pos m_isc, c1]
    rfl
  · subst e
    have c1 := c_cost (N := N) (h := h) (a := a) (mf := mF mf 0 0) (ma := mA ma 24 u) hN v1.1 v1.2.1 sz0 tm1 (by rw [f24]; exact hu4)
    rw [f1, f2, f24, e2, e3, sCost_congr hub] at c1
    rw [tab_k (by omega) (by omega) rfl]
    show (if ka_isc (mH h a (mF mf 0 0) (mA ma 24 u)) [11] a = true then (fm_X9_cost N [.ref a] (mH h a (mF mf 0 0) (mA ma 24 u))).bind (fun r => some (r.1, r.2)) else none) = _
    rw [if_pos m_isc, c1]
    rfl
  · subst e
    have c1 := c_spotMoves (N := N) (h := h) (a := a) (mf := mF mf 0 0) (ma := mA ma 24 u) hN v1.1
    rw [f1, f2] at c1
    rw [tab_k (by omega) (by omega) rfl]
    show (if ka_isc (mH h a (mF mf 0 0) (mA ma 24 u)) [11] a = true then (fm_X9_spotMoves N [.ref a] (mH h a (mF mf 0 0) (mA ma 24 u))).bind (fun r => some (r.1, r.2)) else none) = _
    rw [if_pos m_isc, c1]
    rfl
  · subst e
    have c1 := c_withoutSpot (N := N) (h := h) (a := a) (mf := mF mf 0 0) (ma := mA ma 24 u) hN v1.1
    rw [f2] at c1
    rw [tab_k (by omega) (by omega) rfl]
    show (if ka_isc (mH h a (mF mf 0 0) (mA ma 24 u)) [11] a = true then (fm_X9_withoutSpot N [.ref a] (mH h a (mF mf 0 0) (mA ma 24 u))).bind (fun r => some (r.1, r.2)) else none) = _
    rw [if_pos m_isc, c1]
    rfl
  · rw [tab_d hw.1 hw.2 (by exact e)]
    show (fm_X9_in N [.long (iI w).toInt64, .long (lI 6), .long (lI 8)] (mH h a (mF mf 0 0) (mA ma 24 u))).bind (fun r => if (if r.1 = true then iI 1 else iI 0) = iI 0 then some (iI (-1), r.2) else (if ka_isc r.2 [11] a = true then (fm_X9_crowds N [.ref a, .int (iI w - iI 6)] r.2).bind (fun r => some (r.1, r.2)) else none)) = _
    rw [iI_long hw.1 hw.2, c_in (by omega) (by omega) (by omega) (by omega) (by omega) (by omega), Option.bind_some]
    dsimp only
    have es : sMea (ma 1) (mf 2) (mf 3) (ma 2) w = if vIn w 6 8 = true then (if w = 6 then (sCrd (ma 1 5) (mf 3) (ma 2) (sBins (mf 2) (mf 3)).toNat).1 else if w = 7 then (sCrd (ma 1 5) (mf 3) (ma 2) (sBins (mf 2) (mf 3)).toNat).2.1 else (sCrd (ma 1 5) (mf 3) (ma 2) (sBins (mf 2) (mf 3)).toNat).2.2) else -1 := by
      unfold sMea
      rw [if_neg (by omega), if_neg (by omega), if_neg (by omega), if_neg (by omega), if_neg (by omega), if_neg (by omega)]
    rw [es]
    by_cases q : vIn w 6 8 = true
    · have b := of_decide_eq_true q
      have c1 := c_crowds (N := N) (h := h) (a := a) (mf := mF mf 0 0) (ma := mA ma 24 u) (w := w - 6) hN v1 sz0 tm1 (by omega)
      rw [f1, f2, e2, e3] at c1
      rw [if_neg (c := (if vIn w 6 8 = true then iI 1 else iI 0) = iI 0) (by rw [q]; exact tb1), if_pos q, if_pos m_isc, iI_sub, c1, Option.bind_some]
      have w6 : (w - 6 = 0) = (w = 6) := propext ⟨fun _ => by omega, fun _ => by omega⟩
      have w7 : (w - 6 = 1) = (w = 7) := propext ⟨fun _ => by omega, fun _ => by omega⟩
      simp only [w6, w7]
    · rw [if_pos (c := (if vIn w 6 8 = true then iI 1 else iI 0) = iI 0) (by simp [q]), if_neg q]
/-! a run -/
def sRunW (r : Int → Int) (x : Int × Int × Int × Int) (l : List Int) (w : Int) : Int := if w = 0 then x.2.2.1 else if w = 1 then x.2.2.2 else if w = 2 then l.length else if w = 3 then x.2.2.2 - sW r l else if w = 4 then sDP r x.2.2.1 x.2.2.2 l 0 else if vIn w 10 (9 + l.length) = true then lg l (w - 10).toNat else -1
theorem lLies_mem {r : Int → Int} {R fi : Int} {n : Nat} (h2 : 0 ≤ r 2) : ∀ c, c ∈ lLies r R fi n → 0 ≤ c ∧ c < r 2 := by
  induction n with
  | zero => simp [lLies]
  | succ n ih =>
    intro c hc
    rw [lLies] at hc
    split at hc
    · next q =>
      rw [List.mem_append, List.mem_singleton] at hc
      rcases hc with hc | hc
      · exact ih c hc
      · have := aL_range (p := sThere r R (fi + n) (-1) false) (n := (r 2).toNat)
        subst hc
        unfold sCel at q ⊢
        omega
    · exact ih c hc
theorem c_run {R F I w : Int} (hN : 5000 ≤ N) (v : vOk (ma 2)) (sz : mSz mf) (hR : -2147483648 ≤ R ∧ R < 2147483648) (hF : -2147483648 ≤ F ∧ F < 2147483648) (hI : -2147483648 ≤ I ∧ I < 2147483648) (hw : -2147483648 ≤ w ∧ w < 2147483648) :
    ∃ mf' ma', mNilP mf ma mf' ma' ∧ fm_X9_run N [.ref a, .int (iI R), .int (iI F), .int (iI I), .int (iI w)] (mH h a mf ma) = some (iI (if (vIn R 0 (mf 2 - 1) && vIn F (-1) (ma 2 1 - 1)) = true then (match (lAll (mf 2) (mf 3) (ma 2) (mf 2).toNat)[(sFR (rList ((lAll (mf 2) (mf 3) (ma 2) (mf 2).toNat).map (·.1)) (fun _ => 0)) (rList ((lAll (mf 2) (mf 3) (ma 2) (mf 2).toNat).map (·.2.1)) (fun _ => 0)) R F I (lAll (mf 2) (mf 3) (ma 2) (mf 2).toNat).length).2.toNat]?, decide ((sFR (rList ((lAll (mf 2) (mf 3) (ma 2) (mf 2).toNat).map (·.1)) (fun _ => 0)) (rList ((lAll (mf 2) (mf 3) (ma 2) (mf 2).toNat).map (·.2.1)) (fun _ => 0)) R F I (lAll (mf 2) (mf 3) (ma 2) (mf 2).toNat).length).2 = -1) with
      | some x, false => sRunW (ma 2) x (lLies (ma 2) x.1 x.2.2.1 x.2.2.2.toNat) w
      | _, _ => -1) else -1), mH h a mf' ma') := by
  have ok := v.1
  have g2 := ok.2.2.2.1
  have hL := lAll_lOk (r := ma 2) ok sz.1 sz.2
  have sz0 : mSz (mF mf 0 0) := sz
  have e2 : mF mf 0 0 2 = mf 2 := rfl
  have e3 : mF mf 0 0 3 = mf 3 := rfl
  rw [en_X9_run, eq_X9_run_0, m_p0, Option.bind_some, if_pos m_isc, c_isRunKind ok sz0 hR hF, Option.bind_some, e2]
  dsimp only
  by_cases q : (vIn R 0 (mf 2 - 1) && vIn F (-1) (ma 2 1 - 1)) = true
  · have lr := c_layRuns (N := N) (h := h) (a := a) (mf := mF mf 0 0) (ma := ma) hN ok sz0
    rw [e2, e3] at lr
    generalize hLL : lAll (mf 2) (mf 3) (ma 2) (mf 2).toNat = L at hL lr
    have l1 := hL.1
    rw [if_pos (c := ¬ (if (vIn R 0 (mf 2 - 1) && vIn F (-1) (ma 2 1 - 1)) = true then iI 1 else iI 0) = iI 0) (by rw [q]; exact tb1), if_pos q, if_pos m_isc, lr, Option.bind_some, mHR]
    have rn := mRun_lay (mF mf 0 0) ma L
    have nil1 : mNilP mf ma (mF (mF mf 0 0) 18 L.length) (mRuns ma L) := ⟨⟨rfl, rfl, rfl, rfl, rfl, rfl⟩, mRuns_n (by omega), mRuns_n (by omega), mRuns_n (by omega), mRuns_n (by omega), mRuns_n (by omega), mRuns_n (by omega)⟩
    generalize hmf : mF (mF mf 0 0) 18 L.length = mf1 at rn nil1
    generalize hma : mRuns ma L = ma1 at rn nil1
    have r2 : ma1 2 = ma 2 := nil1.2.2.2.1
    have bA : ∀ k, 0 ≤ k → k < mf1 18 → (-1 ≤ ma1 8 k ∧ ma1 8 k ≤ 600) ∧ (-1 ≤ ma1 9 k ∧ ma1 9 k ≤ 600) := by
      intro k k0 k1
      rw [rn.1] at k1
      obtain ⟨j, rfl⟩ : ∃ j : Nat, k = j := ⟨k.toNat, by omega⟩
      obtain ⟨x8, x9, _, _⟩ := rn.2 j (L[j]'(by omega)) (List.getElem?_eq_getElem (by omega))
      have hx := hL.2 _ (List.getElem_mem (l := L) (n := j) (by omega))
      omega
    have ef : sFR (ma1 8) (ma1 9) R F I L.length = sFR (rList (L.map (·.1)) (fun _ => 0)) (rList (L.map (·.2.1)) (fun _ => 0)) R F I L.length := by
      refine sFR_congr _ (fun k hk => ?_)
      obtain ⟨x8, x9, _, _⟩ := rn.2 k (L[k]'hk) (List.getElem?_eq_getElem hk)
      rw [x8, x9, rIs_at (fun x => x.1) (List.getElem?_eq_getElem hk), rIs_at (fun x => x.2.1) (List.getElem?_eq_getElem hk)]
      exact ⟨rfl, rfl⟩
    have en : (mf1 18).toNat = L.length := by rw [rn.1]; omega
    have f1 := c_findRun (N := N) (h := h) (a := a) (mf := mf1) (ma := ma1) (R := R) (F := F) (I := I) hN (by rw [rn.1]; omega) (fun k k0 k1 => (bA k k0 k1).1) (fun k k0 k1 => (bA k k0 k1).2) hR hF hI
    rw [en, ef] at f1
    have bk := sFR_b (rList (L.map (·.1)) (fun _ => 0)) (rList (L.map (·.2.1)) (fun _ => 0)) R F I L.length
    generalize (sFR (rList (L.map (·.1)) (fun _ => 0)) (rList (L.map (·.2.1)) (fun _ => 0)) R F I L.length).2 = k at f1 bk
    rw [if_pos m_isc, f1, Option.bind_some]
    dsimp only
    by_cases qk : k = -1
    · rw [if_neg (fun z => z (by rw [qk])), decide_eq_true qk]
      refine ⟨mf1, ma1, nil1, ?_⟩
      cases L[k.toNat]? <;> rfl
    · obtain ⟨j, hj⟩ : ∃ j : Nat, k = j := ⟨k.toNat, by omega⟩
      have hjl : j < L.length := by omega
      have hx : L[j]? = some (L[j]'hjl) := List.getElem?_eq_getElem hjl
      generalize L[j]'hjl = x at hx
      have hxx := hL.2 x (List.mem_of_getElem? hx)
      obtain ⟨x8, x9, x10, x11⟩ := rn.2 j x hx
      rw [if_pos (c := ¬ iI k = iI (-1)) (by rw [iI_eq ⟨by omega, by omega⟩ ⟨by omega, by omega⟩]; exact qk), decide_eq_false qk, hj, Int.toNat_natCast, hx]
      dsimp only
      have ll := c_layLies (N := N) (h := h) (a := a) (mf := mf1) (ma := ma1) (k := j) hN (by rw [r2]; exact ok) (by omega) (by omega) (by omega) (by omega)
      rw [r2, x8, x10, x11] at ll
      have lm := lLies_mem (r := ma 2) (R := x.1) (fi := x.2.2.1) (n := x.2.2.2.toNat) g2.1
      have l20 := lLies_20 (ma 2) x.1 x.2.2.1 x.2.2.2.toNat g2.2
      generalize lLies (ma 2) x.1 x.2.2.1 x.2.2.2.toNat = l at ll lm l20
      rw [if_pos m_isc, ll, Option.bind_some, m_g20, Option.bind_some, mF_s, m_p25, Option.bind_some]
      generalize hma2 : mA ma1 12 (rList l (ma1 12)) = ma2
      generalize hmf2 : mF (mF mf1 20 l.length) 25 l.length = mf2
      have t12 : rIs (ma2 12) l := by rw [← hma2, mA_2]; exact rIs_list _ _
      have tn : ∀ p, p ≠ 12 → ma2 p = ma1 p := fun p hp => by rw [← hma2, mA_n hp]
      have u20 : mf2 20 = l.length := by rw [← hmf2, mF_n (by decide), mF_s]
      have u25 : mf2 25 = l.length := by rw [← hmf2, mF_s]
      have un : ∀ k, k ≠ 20 → k ≠ 25 → mf2 k = mf1 k := fun k h1 h2 => by rw [← hmf2, mF_n h2, mF_n h1]
      have nil2 : ∀ A, mNilP mf ma mf2 (mA ma2 15 A) := by
        intro A
        obtain ⟨⟨a1, a2, a3, a4, a5, a6⟩, b1, b2, b3, b4, b5, b6⟩ := nil1
        refine ⟨⟨?_, ?_, ?_, ?_, ?_, ?_⟩, ?_, ?_, ?_, ?_, ?_, ?_⟩
        · rw [un 0 (by decide) (by decide)]; exact a1
        · rw [un 1 (by decide) (by decide)]; exact a2
        · rw [un 2 (by decide) (by decide)]; exact a3
        · rw [un 3 (by decide) (by decide)]; exact a4
        · rw [un 9 (by decide) (by decide)]; exact a5
        · rw [un 13 (by decide) (by decide)]; exact a6
        · rw [mA_n (by decide), tn 0 (by decide)]; exact b1
        · rw [mA_n (by decide), tn 1 (by decide)]; exact b2
        · rw [mA_n (by decide), tn 2 (by decide)]; exact b3
        · rw [mA_n (by decide), tn 3 (by decide)]; exact b4
        · rw [mA_n (by decide), tn 4 (by decide)]; exact b5
        · rw [mA_n (by decide), tn 7 (by decide)]; exact b6
      have key := fix_ms (B := cm_X9_run_54 N) (fun i : Nat => [some (.ref a), some (.int (iI R)), some (.int (iI F)), some (.int (iI I)), some (.int (iI w)), some (.int (iI j)), some (.int (iI i))]) (fun i => mH h a mf2 (mA ma2 15 (rList (l.take i) (ma2 15)))) (fun i => i ≤ l.length) (fun i => l.length - i) (fun z => ∃ mf' ma', mNilP mf ma mf' ma' ∧ z = some (iI (sRunW (ma 2) x l w), mH h a mf' ma')) ?_ N 0 (by omega) (by omega)
      · simp only [List.take_zero, rList_nil, mA_self, Int.natCast_zero] at key
        exact key
      · intro K i hi
        by_cases e : i = l.length
        · left
          subst e
          rw [List.take_length]
          have nl := nil2 (rList l (ma2 15))
          generalize hma3 : mA ma2 15 (rList l (ma2 15)) = ma3 at nl
          have s15 : rIs (ma3 15) l := by rw [← hma3, mA_2]; exact rIs_list _ _
          have s12 : rIs (ma3 12) l := by rw [← hma3, mA_n (by decide)]; exact t12
          have s2 : ma3 2 = ma 2 := nl.2.2.2.1
          have s10 : ma3 10 j = x.2.2.1 := by rw [← hma3, mA_n (by decide), tn 10 (by decide)]; exact x10
          have s11 : ma3 11 j = x.2.2.2 := by rw [← hma3, mA_n (by decide), tn 11 (by decide)]; exact x11
          have rn3 : mRun mf2 ma3 L := by
            refine ⟨by rw [un 18 (by decide) (by decide)]; exact rn.1, ?_⟩
            intro k y hy
            rw [← hma3, mA_n (by decide), mA_n (by decide), mA_n (by decide), mA_n (by decide), tn 8 (by decide), tn 9 (by decide), tn 10 (by decide), tn 11 (by decide)]
            exact rn.2 k y hy
          show ∃ mf' ma', mNilP mf ma mf' ma' ∧ (ka_gi (mH h a mf2 ma3) [11] a 20).bind (fun v => if v ≤ iI l.length then ki_tab 0 _ _ [some (.ref a), some (.int (iI R)), some (.int (iI F)), some (.int (iI I)), some (.int (iI w)), some (.int (iI j)), some (.int (iI l.length))] [.int (iI w)] (mH h a mf2 ma3) else _) = _
          rw [m_g20, Option.bind_some, u20, if_pos ((iI_le ⟨by omega, by omega⟩ ⟨by omega, by omega⟩).mpr (Int.le_refl _))]
          have cs : w = 0 ∨ w = 1 ∨ w = 2 ∨ w = 3 ∨ w = 4 ∨ (w < 0 ∨ 5 ≤ w) := by omega
          rcases cs with e | e | e | e | e | e
          · subst e
            refine ⟨mf2, ma3, nl, ?_⟩
            rw [tab_k (by omega) (by omega) rfl]
            show (ka_gr (mH h a mf2 ma3) [11] a 16).bind (fun v => (ka_ld 0 (mH h a mf2 ma3) v (iI j)).bind (fun v => some (v, _))) = _
            rw [m_r16, Option.bind_some, m_l16 (by omega) (by omega), s10]
            rfl
          · subst e
            refine ⟨mf2, ma3, nl, ?_⟩
            rw [tab_k (by omega) (by omega) rfl]
            show (ka_gr (mH h a mf2 ma3) [11] a 17).bind (fun v => (ka_ld 0 (mH h a mf2 ma3) v (iI j)).bind (fun v => some (v, _))) = _
            rw [m_r17, Option.bind_some, m_l17 (by omega) (by omega), s11]
            rfl
          · subst e
            refine ⟨mf2, ma3, nl, ?_⟩
            rw [tab_k (by omega) (by omega) rfl]
            show (ka_gi (mH h a mf2 ma3) [11] a 20).bind (fun v => some (v, _)) = _
            rw [m_g20, u20]
            rfl
          · subst e
            refine ⟨mf2, ma3, nl, ?_⟩
            have sw := c_someWidth (N := N) (h := h) (a := a) (mf := mf2) (ma := ma3) hN (by omega) (by
              intro i i0 i1
              obtain ⟨m, rfl⟩ : ∃ m : Nat, i = m := ⟨i.toNat, by omega⟩
              rw [s15 m (by omega)]
              have := lm _ (List.getElem_mem (l := l) (n := m) (by omega))
              omega)
            rw [u25, Int.toNat_natCast, s2, sW_aS _ _ _ s15] at sw
            rw [tab_k (by omega) (by omega) rfl]
            show (ka_gr (mH h a mf2 ma3) [11] a 17).bind (fun v => (ka_ld 0 (mH h a mf2 ma3) v (iI j)).bind (fun v => if ka_isc (mH h a mf2 ma3) [11] a = true then (fm_X9_someWidth N [.ref a] (mH h a mf2 ma3)).bind (fun r => some (v - r.1, r.2)) else none)) = _
            rw [m_r17, Option.bind_some, m_l17 (by omega) (by omega), Option.bind_some, s11, if_pos m_isc, sw, Option.bind_some, iI_sub]
            rfl
          · subst e
            obtain ⟨ma4, y1, _, _, y2⟩ := c_least (N := N) (h := h) (a := a) (mf := mf2) (ma := ma3) (k := j) L x j rfl l hN (by rw [s2]; exact ok) rn3 hL hx (by rw [s2]; exact lm) l20 u25 s15
            rw [s2] at y2
            have nl4 : mNilP mf ma mf2 ma4 := by
              obtain ⟨a1, b1, b2, b3, b4, b5, b6⟩ := nl
              refine ⟨a1, ?_, ?_, ?_, ?_, ?_, ?_⟩
              · rw [y1.2 0 (by decide) (by decide)]; exact b1
              · rw [y1.2 1 (by decide) (by decide)]; exact b2
              · rw [y1.2 2 (by decide) (by decide)]; exact b3
              · rw [y1.2 3 (by decide) (by decide)]; exact b4
              · rw [y1.2 4 (by decide) (by decide)]; exact b5
              · rw [y1.2 7 (by decide) (by decide)]; exact b6
            refine ⟨mf2, ma4, nl4, ?_⟩
            rw [tab_k (by omega) (by omega) rfl]
            show (if ka_isc (mH h a mf2 ma3) [11] a = true then (fm_X9_leastIn N [.ref a, .int (iI j)] (mH h a mf2 ma3)).bind (fun r => some (r.1, r.2)) else none) = _
            rw [if_pos m_isc, y2]
            rfl
          · refine ⟨mf2, ma3, nl, ?_⟩
            rw [tab_d hw.1 hw.2 (by exact e)]
            show (ka_gi (mH h a mf2 ma3) [11] a 20).bind (fun v => (fm_X9_in N [.long (iI w).toInt64, .long (lI 10), .long (lI 9 + v.toInt64)] (mH h a mf2 ma3)).bind (fun r => if (if r.1 = true then iI 1 else iI 0) = iI 0 then some (iI (-1), r.2) else (ka_gr r.2 [11] a 19).bind (fun v => (ka_ld 0 r.2 v (iI w - iI 10)).bind (fun v => some (v, r.2))))) = _
            rw [m_g20, Option.bind_some, u20, iI_long hw.1 hw.2, iI_long (by omega) (by omega), lI_add, c_in (by omega) (by omega) (by omega) (by omega) (by omega) (by omega), Option.bind_some]
            dsimp only
            have es : sRunW (ma 2) x l w = if vIn w 10 (9 + l.length) = true then lg l (w - 10).toNat else -1 := by
              unfold sRunW
              rw [if_neg (by omega), if_neg (by omega), if_neg (by omega), if_neg (by omega), if_neg (by omega)]
            rw [es]
            by_cases qw : vIn w 10 (9 + l.length) = true
            · have bw := of_decide_eq_true qw
              rw [if_neg (c := (if vIn w 10 (9 + l.length) = true then iI 1 else iI 0) = iI 0) (by rw [qw]; exact tb1), if_pos qw, m_r19, Option.bind_some, iI_sub, m_l19 (by omega) (by omega), Option.bind_some, rIs_lg s12 (by omega) (by omega)]
            · rw [if_pos (c := (if vIn w 10 (9 + l.length) = true then iI 1 else iI 0) = iI 0) (by simp [qw]), if_neg qw]
        · right
          have hil : i < l.length := by omega
          refine ⟨i + 1, by omega, by omega, ?_⟩
          have ea := rList_app (l.take i) (ma2 15) l[i]
          rw [List.length_take, show min i l.length = i by omega, ← List.take_succ_eq_append_getElem hil] at ea
          show (ka_gi (mH h a mf2 (mA ma2 15 (rList (l.take i) (ma2 15)))) [11] a 20).bind (fun v => if v ≤ iI i then _ else (ka_gr (mH h a mf2 (mA ma2 15 (rList (l.take i) (ma2 15)))) [11] a 24).bind (fun v2 => (ka_gr (mH h a mf2 (mA ma2 15 (rList (l.take i) (ma2 15)))) [11] a 19).bind (fun v3 => (ka_ld 0 (mH h a mf2 (mA ma2 15 (rList (l.take i) (ma2 15)))) v3 (iI i)).bind (fun v4 => (ka_sd 0 (mH h a mf2 (mA ma2 15 (rList (l.take i) (ma2 15)))) v2 (iI i) v4).bind (fun h5 => K [some (.ref a), some (.int (iI R)), some (.int (iI F)), some (.int (iI I)), some (.int (iI w)), some (.int (iI j)), some (.int (iI i + iI 1))] [] h5))))) = _
          rw [m_g20, Option.bind_some, u20, if_neg (fun z => by have := (iI_le ⟨by omega, by omega⟩ ⟨by omega, by omega⟩).mp z; omega), m_r24, Option.bind_some, m_r19, Option.bind_some, m_l19 (by omega) (by omega), Option.bind_some, mA_n (by decide), t12 i hil, m_s24 (by omega) (by omega), Option.bind_some, mU_mA, mA_2, mA_mA, ea, iI_add]
          rfl
  · rw [if_neg (c := ¬ (if (vIn R 0 (mf 2 - 1) && vIn F (-1) (ma 2 1 - 1)) = true then iI 1 else iI 0) = iI 0) (by rw [iI_zb]; simpa using q), if_neg q]
    exact ⟨mF mf 0 0, ma, ⟨⟨rfl, rfl, rfl, rfl, rfl, rfl⟩, rfl, rfl, rfl, rfl, rfl, rfl⟩, rfl⟩
end M52
