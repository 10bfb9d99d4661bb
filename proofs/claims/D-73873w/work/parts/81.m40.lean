/-! ===== the model: legal, lawfully ===== -/
/-- loose cells without spots -/
def rBare (r : Int → Int) : Int → Int := rLsN r (lQ r (r 2).toNat) (lQ r (r 2).toNat).length
/-- all loose cells at lawful spots, if there is room -/
def sLegal (tall rows sites : Int) (r : Int → Int) : Option (Int → Int) := match sAsg tall (rBare r) (lAll rows sites r rows.toNat) (lQ r (r 2).toNat) (lQ r (r 2).toNat).length with
  | none => none
  | some C => some (rPlA (rBare r) (lAll rows sites r rows.toNat) C (lAll rows sites r rows.toNat).length)
theorem rBare_ok {r : Int → Int} (v : vOk r) : vOk (rBare r) ∧ sameX r (rBare r) := by
  have g2 := v.1.2.2.2.1
  obtain ⟨h1, h2⟩ := rLsN_ok (l := lQ r (r 2).toNat) v.1.1 (fun c hc => by have := lQ_mem r (r 2).toNat c hc; omega) (lQ r (r 2).toNat).length (by omega)
  exact ⟨vOk_x h2 v h1, h2⟩
theorem sLegal_ok {tall rows sites : Int} {r r' : Int → Int} (v : vOk r) (s1 : 1 ≤ rows ∧ rows ≤ 8) (s2 : 8 ≤ sites ∧ sites ≤ 32) (h : sLegal tall rows sites r = some r') : vOk r' ∧ sameX r r' := by
  have g2 := v.1.2.2.2.1
  obtain ⟨h1, h2⟩ := rBare_ok v
  have hL := lAll_lOk (r := r) v.1 s1 s2
  have e2 : rBare r 2 = r 2 := h2 2 (by omega)
  unfold sLegal at h
  cases e : sAsg tall (rBare r) (lAll rows sites r rows.toNat) (lQ r (r 2).toNat) (lQ r (r 2).toNat).length with
  | none => rw [e] at h; simp at h
  | some C =>
    rw [e] at h
    simp only [Option.some.injEq] at h
    obtain ⟨c1, c2⟩ := sAsg_ok hL _ (by omega) e
    obtain ⟨o1, o2⟩ := rPlA_ok (L := lAll rows sites r rows.toNat) (C := C) h1.1 hL (fun k c hc => by have := lQ_mem r (r 2).toNat c (c1 k c hc); omega) c2 (lAll rows sites r rows.toNat).length
    rw [h] at o1 o2
    exact ⟨vOk_x o2 h1 o1, sameX_t h2 o2⟩
/-- a row laid aside and taken back -/
theorem rCp_back {r r' f g : Int → Int} (h : sameX r r') (hf : f = rCp r g 0 0 400) : rCp f r' 0 0 400 = r := by
  funext j
  by_cases e : 0 ≤ j ∧ j < 400
  · rw [rCp_00 e.1 e.2, hf, rCp_00 e.1 e.2]
  · unfold rCp
    rw [if_neg (by omega)]
    exact h j (by omega)
def mNoP (mf : Nat → Int) (ma : Nat → Int → Int) (v : Int) (mf' : Nat → Int) (ma' : Nat → Int → Int) : Prop :=
  (mf' 0 = 0 ∧ mf' 1 = v ∧ mf' 2 = mf 2 ∧ mf' 3 = mf 3 ∧ mf' 9 = mf 9 ∧ mf' 13 = mf 13) ∧ (ma' 0 = rU (ma 0) (-v) (ma 0 (-v) + 1) ∧ ma' 1 = ma 1 ∧ ma' 2 = ma 2 ∧ ma' 3 = ma 3 ∧ ma' 4 = ma 4 ∧ ma' 7 = ma 7)
def mNilP (mf : Nat → Int) (ma : Nat → Int → Int) (mf' : Nat → Int) (ma' : Nat → Int → Int) : Prop :=
  (mf' 0 = 0 ∧ mf' 1 = mf 1 ∧ mf' 2 = mf 2 ∧ mf' 3 = mf 3 ∧ mf' 9 = mf 9 ∧ mf' 13 = mf 13) ∧ (ma' 0 = ma 0 ∧ ma' 1 = ma 1 ∧ ma' 2 = ma 2 ∧ ma' 3 = ma 3 ∧ ma' 4 = ma 4 ∧ ma' 7 = ma 7)
section M40
variable {N : Nat} {h : ka_H} {a : Nat} {mf : Nat → Int} {ma : Nat → Int → Int}
theorem c_makeLawful (hN : 5000 ≤ N) (v : vOk (ma 2)) (sz : mSz mf) (tm : tmOk (ma 1)) :
    match sLegal (ma 1 4) (mf 2) (mf 3) (ma 2) with
    | none => ∃ mf' ma', mS mf ma mf' ma' ∧ sameX (ma 2) (ma' 2) ∧ fm_X9_makeLawful N [.ref a] (mH h a mf ma) = some (false, mH h a mf' ma')
    | some r => ∃ mf' ma', mS mf ma mf' ma' ∧ ma' 2 = r ∧ fm_X9_makeLawful N [.ref a] (mH h a mf ma) = some (true, mH h a mf' ma') := by
  have g2 := v.1.2.2.2.1
  have hL := lAll_lOk (r := ma 2) v.1 sz.1 sz.2
  obtain ⟨o1, o2⟩ := rBare_ok v
  generalize hLL : lAll (mf 2) (mf 3) (ma 2) (mf 2).toNat = L at hL
  generalize hql : lQ (ma 2) (ma 2 2).toNat = ql
  have hq0 : ∀ c, c ∈ ql → 0 ≤ c ∧ c < ma 2 2 := fun c hc => by
    have := lQ_mem (ma 2) (ma 2 2).toNat c (by rw [hql]; exact hc)
    omega
  have hn : ql.length ≤ 20 := by
    have := lQ_len (ma 2) (ma 2 2).toNat
    rw [hql] at this
    omega
  have hb : rBare (ma 2) = rLsN (ma 2) ql ql.length := by unfold rBare; rw [hql]
  have c1 := c_layRuns (N := N) (h := h) (a := a) (mf := mf) (ma := ma) hN v.1 sz
  rw [hLL, mHR] at c1
  have e2 : mRuns ma L 2 = ma 2 := mRuns_n (by omega)
  obtain ⟨A, q1, q2⟩ := c_layQueue (N := N) (h := h) (a := a) (mf := mF mf 18 L.length) (ma := mRuns ma L) hN (by rw [e2]; exact v.1)
  rw [e2, hql] at q1 q2
  have run : fm_X9_makeLawful N [.ref a] (mH h a mf ma) = ki_fix (cm_X9_makeLawful_36 N) N [some (.ref a), some (.int (iI 0))] [] (mH h a (mF (mF mf 18 L.length) 22 ql.length) (mA (mA (mRuns ma L) 13 A) 2 (rBare (ma 2)))) := by
    rw [en_X9_makeLawful, eq_X9_makeLawful_0, if_pos m_isc, c1, Option.bind_some, if_pos m_isc, q2, Option.bind_some]
    have key := fix_up (B := cm_X9_makeLawful_10 N) (R := ki_fix (cm_X9_makeLawful_36 N) N [some (.ref a), some (.int (iI 0))] [] (mH h a (mF (mF mf 18 L.length) 22 ql.length) (mA (mA (mRuns ma L) 13 A) 2 (rBare (ma 2))))) (fun i => [some (.ref a), some (.int (iI i))]) (fun i => mH h a (mF (mF mf 18 L.length) 22 ql.length) (mA (mA (mRuns ma L) 13 A) 2 (rLsN (ma 2) ql i))) ql.length ?_ ?_ N 0 (by omega) (by omega)
    · simp only [rLsN, Int.natCast_zero] at key
      have e3 : mA (mA (mRuns ma L) 13 A) 2 (ma 2) = mA (mRuns ma L) 13 A := by
        have : ma 2 = mA (mRuns ma L) 13 A 2 := by rw [mA_n (by decide), e2]
        rw [this, mA_self]
      rw [e3] at key
      exact key
    · intro K
      rw [eq_X9_makeLawful_10, m_g22, Option.bind_some, mF_s, if_pos ((iI_le ⟨by omega, by omega⟩ ⟨by omega, by omega⟩).mpr (by omega)), hb]
    · intro K i hi
      have eg : (ql[i]?).getD 0 = ql[i] := by simp [hi]
      have hqi := hq0 ql[i] (List.getElem_mem hi)
      have ei : ((i + 1 : Nat) : Int) = (i : Int) + 1 := by omega
      rw [eq_X9_makeLawful_10, m_g22, Option.bind_some, mF_s, if_neg (fun z => by have := (iI_le ⟨by omega, by omega⟩ ⟨by omega, by omega⟩).mp z; omega), m_r21, Option.bind_some, m_l21 (by omega) (by omega), Option.bind_some, mA_n (by decide), mA_2, q1 i hi, if_pos m_isc, c_lose hqi.1 (by omega), Option.bind_some, mA_2, mA_mA, iI_add, ei, rLsN, eg]
  have e1 : mA (mA (mRuns ma L) 13 A) 2 (rBare (ma 2)) 1 = ma 1 := by rw [mA_n (by decide), mA_n (by decide), mRuns_n (by omega)]
  have m36 := c_make36 (N := N) (h := h) (a := a) (mf := mF (mF mf 18 L.length) 22 ql.length) (ma := mA (mA (mRuns ma L) 13 A) 2 (rBare (ma 2))) (rBare (ma 2)) L ql hN o1 (by rw [e1]; exact tm) (mA_2 _ _ _) (by
    have := mRun_lay mf ma L
    refine ⟨by rw [mF_n (by decide)]; exact this.1, ?_⟩
    intro k x hx
    rw [mA_n (by decide), mA_n (by decide), mA_n (by decide), mA_n (by decide), mA_n (by decide), mA_n (by decide), mA_n (by decide), mA_n (by decide)]
    exact this.2 k x hx) hL (mF_s _ _ _) hn (by
    intro c hc
    rw [o2 2 (by omega)]
    exact hq0 c hc) (by rw [← hql]; exact lQ_nodup _ _) (by rw [mA_n (by decide), mA_2]; exact q1)
  rw [e1] at m36
  have scr : ∀ mf' ma', mS (mF (mF mf 18 L.length) 22 ql.length) (mA (mA (mRuns ma L) 13 A) 2 (rBare (ma 2))) mf' ma' → mS mf ma mf' ma' := by
    intro mf' ma' hs
    refine ⟨fun k hk => ?_, fun p hp => ?_⟩
    · rw [hs.1 k hk, mF_n (by omega), mF_n (by omega)]
    · rw [hs.2 p hp, mA_n (by omega), mA_n (by omega), mRuns_n (by omega)]
  unfold sLegal
  rw [hLL, hql]
  rw [← run] at m36
  cases e : sAsg (ma 1 4) (rBare (ma 2)) L ql ql.length with
  | none =>
    rw [e] at m36
    dsimp only at m36 ⊢
    obtain ⟨mf', ma', y1, y2, y3⟩ := m36
    exact ⟨mf', ma', scr _ _ y1, by rw [y2]; exact o2, y3⟩
  | some C =>
    rw [e] at m36
    dsimp only at m36 ⊢
    obtain ⟨mf', ma', y1, y2, y3⟩ := m36
    exact ⟨mf', ma', scr _ _ y1, y2, y3⟩
theorem c_legal (hN : 5000 ≤ N) (v : vOk (ma 2)) (sz : mSz mf) (tm : tmOk (ma 1)) (h9 : 0 ≤ mf 9 ∧ mf 9 ≤ 12) :
    match sLegal (ma 1 4) (mf 2) (mf 3) (ma 2) with
    | none => ∃ mf' ma', mNoP mf ma (-5) mf' ma' ∧ fm_X9_legal N [.ref a] (mH h a mf ma) = some (iI (-5), mH h a mf' ma')
    | some r => ∃ mf' ma', mYesP mf ma 12 r mf' ma' ∧ fm_X9_legal N [.ref a] (mH h a mf ma) = some (iI (sLsM (ma 1 4) r), mH h a mf' ma') := by
  have mk := c_makeLawful (N := N) (h := h) (a := a) (mf := mF mf 0 0) (ma := mA ma 5 (rCp (ma 2) (ma 5) 0 0 400)) hN (by rw [mA_n (by decide)]; exact v) sz (by rw [mA_n (by decide)]; exact tm)
  rw [mA_n (by decide), mA_n (by decide), mF_n (by decide), mF_n (by decide)] at mk
  rw [en_X9_legal, eq_X9_legal_0, m_p0, Option.bind_some, m_r6, Option.bind_some, m_r10, Option.bind_some, c_copy (p := 2) (q := 5) hN (by decide) (by decide) (by decide) (by omega) (by omega) (by simp [mLen]) (by simp [mLen]), Option.bind_some, if_pos m_isc]
  cases e : sLegal (ma 1 4) (mf 2) (mf 3) (ma 2) with
  | none =>
    rw [e] at mk
    dsimp only at mk ⊢
    obtain ⟨mf1, ma1, y1, y2, y3⟩ := mk
    have w5 : ma1 5 = rCp (ma 2) (ma 5) 0 0 400 := by rw [y1.2 5 (by omega), mA_2]
    rw [y3, Option.bind_some]
    dsimp only
    rw [if_neg (by simp), m_r10, Option.bind_some, m_r6, Option.bind_some, c_copy (p := 5) (q := 2) hN (by decide) (by decide) (by decide) (by omega) (by omega) (by simp [mLen]) (by simp [mLen]), Option.bind_some, rCp_back y2 w5, if_pos m_isc, c_refuse (by omega), Option.bind_some]
    refine ⟨_, _, ⟨⟨?_, ?_, ?_, ?_, ?_, ?_⟩, ?_, ?_, ?_, ?_, ?_, ?_⟩, rfl⟩
    · rw [mF_n (by decide), y1.1 0 (by omega)]; rfl
    · rw [mF_s]
    · rw [mF_n (by decide), y1.1 2 (by omega)]; rfl
    · rw [mF_n (by decide), y1.1 3 (by omega)]; rfl
    · rw [mF_n (by decide), y1.1 9 (by omega)]; rfl
    · rw [mF_n (by decide), y1.1 13 (by omega)]; rfl
    · rw [mA_2, mA_n (by decide), y1.2 0 (by omega), mA_n (by decide)]
    · rw [mA_n (by decide), mA_n (by decide), y1.2 1 (by omega), mA_n (by decide)]
    · rw [mA_n (by decide), mA_2]
    · rw [mA_n (by decide), mA_n (by decide), y1.2 3 (by omega), mA_n (by decide)]
    · rw [mA_n (by decide), mA_n (by decide), y1.2 4 (by omega), mA_n (by decide)]
    · rw [mA_n (by decide), mA_n (by decide), y1.2 7 (by omega), mA_n (by decide)]
  | some r =>
    obtain ⟨vr, sr⟩ := sLegal_ok v sz.1 sz.2 e
    rw [e] at mk
    dsimp only at mk ⊢
    obtain ⟨mf1, ma1, y1, y2, y3⟩ := mk
    have w5 : ma1 5 = rCp (ma 2) (ma 5) 0 0 400 := by rw [y1.2 5 (by omega), mA_2]
    have w1 : ma1 1 = ma 1 := by rw [y1.2 1 (by omega), mA_n (by decide)]
    have w9 : mf1 9 = mf 9 := by rw [y1.1 9 (by omega)]; rfl
    have cl := c_looseMoves (N := N) (h := h) (a := a) (mf := mf1) (ma := ma1) hN (by rw [y2]; exact vr.1)
    rw [y2, w1] at cl
    rw [y3, Option.bind_some]
    dsimp only
    rw [if_pos tb1, if_pos m_isc, cl, Option.bind_some]
    dsimp only
    rw [m_r6, Option.bind_some, m_r11, Option.bind_some, c_copy (p := 2) (q := 6) hN (by decide) (by decide) (by decide) (by omega) (by omega) (by simp [mLen]) (by simp [mLen]), Option.bind_some, m_r10, Option.bind_some, m_r6, Option.bind_some, c_copy (p := 5) (q := 2) hN (by decide) (by decide) (by decide) (by omega) (by omega) (by simp [mLen]) (by simp [mLen]), Option.bind_some, y2]
    have eb : rCp (mA ma1 6 (rCp r (ma1 6) 0 0 400) 5) (mA ma1 6 (rCp r (ma1 6) 0 0 400) 2) 0 0 400 = ma 2 := by
      rw [mA_n (by decide), mA_n (by decide), y2]
      exact rCp_back sr w5
    rw [eb]
    generalize hma2 : mA (mA ma1 6 (rCp r (ma1 6) 0 0 400)) 2 (ma 2) = ma2
    have z2 : ma2 2 = ma 2 := by rw [← hma2, mA_2]
    have z6 : ma2 6 = rCp r (ma1 6) 0 0 400 := by rw [← hma2, mA_n (by decide), mA_2]
    have zz : ∀ p, p = 0 ∨ p = 1 ∨ p = 3 ∨ p = 4 ∨ p = 7 → ma2 p = ma p := by
      intro p hp
      rw [← hma2, mA_n (by omega), mA_n (by omega), y1.2 p (by omega), mA_n (by omega)]
    rw [if_pos m_isc, c_remember hN (by rw [w9]; exact h9), Option.bind_some, m_r11, Option.bind_some, m_r6, Option.bind_some, c_copy (p := 6) (q := 2) hN (by decide) (by decide) (by decide) (by omega) (by omega) (by simp [mLen]) (by simp [mLen]), Option.bind_some, eq_X9_legal_95, if_pos m_isc, c_tell, Option.bind_some]
    have er : rCp (mRem mf1 ma2 12 6) (mRem mf1 ma2 12 2) 0 0 400 = r := by
      rw [mRem_2, mRem_n (by decide) (by decide), z2]
      exact rCp_back (sameX_s sr) z6
    rw [er]
    have m3 : mRem mf1 ma2 12 3 = mRem mf ma 12 3 ∧ mRem mf1 ma2 12 4 = mRem mf ma 12 4 := by
      unfold mRem
      rw [w9]
      by_cases q : mf 9 = 12
      · rw [if_pos q, if_pos q, mA_n (by decide), mA_2, mA_n (by decide), mA_2, mA_2, mA_2, z2, zz 3 (by omega), zz 4 (by omega)]
        exact ⟨rfl, rfl⟩
      · rw [if_neg q, if_neg q, mA_n (by decide), mA_2, mA_n (by decide), mA_2, mA_2, mA_2, z2, zz 3 (by omega), zz 4 (by omega)]
        exact ⟨rfl, rfl⟩
    refine ⟨_, _, ⟨⟨?_, ?_, ?_, ?_, ?_, ?_⟩, ?_, ?_, ?_, ?_, ?_, ?_⟩, rfl⟩
    · rw [mF_n (by decide), mF_n (by decide), y1.1 0 (by omega)]; rfl
    · rw [mF_s]
    · rw [mF_n (by decide), mF_n (by decide), y1.1 2 (by omega)]; rfl
    · rw [mF_n (by decide), mF_n (by decide), y1.1 3 (by omega)]; rfl
    · rw [mF_n (by decide), mF_s, w9]
    · rw [mF_n (by decide), mF_n (by decide), y1.1 13 (by omega)]; rfl
    · rw [mA_n (by decide), mRem_n (by decide) (by decide), zz 0 (by omega)]
    · rw [mA_n (by decide), mRem_n (by decide) (by decide), zz 1 (by omega)]
    · rw [mA_2]
    · rw [mA_n (by decide), m3.1]
    · rw [mA_n (by decide), m3.2]
    · rw [mA_n (by decide), mRem_n (by decide) (by decide), zz 7 (by omega)]
theorem c_lawfully {w : Int} (hN : 5000 ≤ N) (v : vOk (ma 2)) (sz : mSz mf) (tm : tmOk (ma 1)) (hw : -2147483648 ≤ w ∧ w < 2147483648) :
    ∃ mf' ma', mNilP mf ma mf' ma' ∧ fm_X9_lawfully N [.ref a, .int (iI w)] (mH h a mf ma) = some (iI (if vIn w 0 1 = true then (match sLegal (ma 1 4) (mf 2) (mf 3) (ma 2) with
      | none => if w = 1 then -1 else -5
      | some r => if w = 1 then sWire (ma 1 4) r else sLsM (ma 1 4) r) else -1), mH h a mf' ma') := by
  have mk := c_makeLawful (N := N) (h := h) (a := a) (mf := mF mf 0 0) (ma := mA ma 5 (rCp (ma 2) (ma 5) 0 0 400)) hN (by rw [mA_n (by decide)]; exact v) sz (by rw [mA_n (by decide)]; exact tm)
  rw [mA_n (by decide), mA_n (by decide), mF_n (by decide), mF_n (by decide)] at mk
  rw [en_X9_lawfully, eq_X9_lawfully_0, m_p0, Option.bind_some, iI_long hw.1 hw.2, c_in (by omega) (by omega) (by omega) (by omega) (by omega) (by omega), Option.bind_some]
  dsimp only
  by_cases q1 : vIn w 0 1 = true
  · have b1 := of_decide_eq_true q1
    rw [if_pos (by rw [q1]; exact tb1), if_pos q1, m_r6, Option.bind_some, m_r10, Option.bind_some, c_copy (p := 2) (q := 5) hN (by decide) (by decide) (by decide) (by omega) (by omega) (by simp [mLen]) (by simp [mLen]), Option.bind_some, if_pos m_isc]
    have fin : ∀ mf1 ma1 s0 l2, mS (mF mf 0 0) (mA ma 5 (rCp (ma 2) (ma 5) 0 0 400)) mf1 ma1 → sameX (ma 2) (ma1 2) → ∃ mf' ma', mNilP mf ma mf' ma' ∧ cm_X9_lawfully_68 N [some (.ref a), some (.int (iI w)), some (.int l2)] [.int s0] (mH h a mf1 ma1) = some (s0, mH h a mf' ma') := by
      intro mf1 ma1 s0 l2 y1 y2
      have w5 : ma1 5 = rCp (ma 2) (ma 5) 0 0 400 := by rw [y1.2 5 (by omega), mA_2]
      rw [eq_X9_lawfully_68, m_r10, Option.bind_some, m_r6, Option.bind_some, c_copy (p := 5) (q := 2) hN (by decide) (by decide) (by decide) (by omega) (by omega) (by simp [mLen]) (by simp [mLen]), Option.bind_some, rCp_back y2 w5]
      refine ⟨_, _, ⟨⟨?_, ?_, ?_, ?_, ?_, ?_⟩, ?_, ?_, ?_, ?_, ?_, ?_⟩, rfl⟩
      · rw [y1.1 0 (by omega)]; rfl
      · rw [y1.1 1 (by omega)]; rfl
      · rw [y1.1 2 (by omega)]; rfl
      · rw [y1.1 3 (by omega)]; rfl
      · rw [y1.1 9 (by omega)]; rfl
      · rw [y1.1 13 (by omega)]; rfl
      · rw [mA_n (by decide), y1.2 0 (by omega), mA_n (by decide)]
      · rw [mA_n (by decide), y1.2 1 (by omega), mA_n (by decide)]
      · rw [mA_2]
      · rw [mA_n (by decide), y1.2 3 (by omega), mA_n (by decide)]
      · rw [mA_n (by decide), y1.2 4 (by omega), mA_n (by decide)]
      · rw [mA_n (by decide), y1.2 7 (by omega), mA_n (by decide)]
    cases e : sLegal (ma 1 4) (mf 2) (mf 3) (ma 2) with
    | none =>
      rw [e] at mk
      dsimp only at mk ⊢
      obtain ⟨mf1, ma1, y1, y2, y3⟩ := mk
      rw [y3, Option.bind_some]
      dsimp only
      by_cases q2 : w = 1
      · subst q2
        rw [if_neg (fun z => z rfl), if_pos (by rfl), if_pos rfl]
        exact fin mf1 ma1 _ _ y1 y2
      · rw [if_pos (by rw [iI_eq ⟨by omega, by omega⟩ ⟨by omega, by omega⟩]; exact q2), if_pos (by rfl), if_neg q2]
        exact fin mf1 ma1 _ _ y1 y2
    | some r =>
      obtain ⟨vr, sr⟩ := sLegal_ok v sz.1 sz.2 e
      rw [e] at mk
      dsimp only at mk ⊢
      obtain ⟨mf1, ma1, y1, y2, y3⟩ := mk
      have w1 : ma1 1 = ma 1 := by rw [y1.2 1 (by omega), mA_n (by decide)]
      have y2' : sameX (ma 2) (ma1 2) := by rw [y2]; exact sr
      rw [y3, Option.bind_some]
      dsimp only
      by_cases q2 : w = 1
      · subst q2
        have cw := c_wire (N := N) (h := h) (a := a) (mf := mf1) (ma := ma1) hN (by rw [y2]; exact vr.1) (by rw [y2]; exact vr.2.1)
        rw [y2, w1] at cw
        rw [if_neg (fun z => z rfl), if_neg tb1, if_pos rfl, if_pos m_isc, cw, Option.bind_some]
        exact fin mf1 ma1 _ _ y1 y2'
      · have cl := c_looseMoves (N := N) (h := h) (a := a) (mf := mf1) (ma := ma1) hN (by rw [y2]; exact vr.1)
        rw [y2, w1] at cl
        rw [if_pos (by rw [iI_eq ⟨by omega, by omega⟩ ⟨by omega, by omega⟩]; exact q2), if_neg tb1, if_neg q2, if_pos m_isc, cl, Option.bind_some]
        exact fin mf1 ma1 _ _ y1 y2'
  · rw [if_neg (by simp [q1]), if_neg q1]
    exact ⟨mF mf 0 0, ma, ⟨⟨rfl, rfl, rfl, rfl, rfl, rfl⟩, rfl, rfl, rfl, rfl, rfl, rfl⟩, rfl⟩
end M40
