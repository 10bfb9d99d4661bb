/-! ===== the model: tables ===== -/
theorem tab_k {β : Type} {Ks : List (ka_K β)} {Kd K : ka_K β} {L : ka_L} {S : List Value} {h : ka_H} {w : Int} (h0 : 0 ≤ w) (h1 : w < 2147483648) (hk : Ks[w.toNat]? = some K) : ki_tab 0 Ks Kd L (.int (iI w) :: S) h = K L S h := by
  have e : (iI w).toInt = w := iI_toInt ⟨by omega, h1⟩
  show (if (iI w).toInt < 0 then Kd L S h else match Ks[((iI w).toInt - 0).toNat]? with
    | some K => K L S h
    | none => Kd L S h) = _
  rw [e, if_neg (by omega), Int.sub_zero, hk]
theorem tab_d {β : Type} {Ks : List (ka_K β)} {Kd : ka_K β} {L : ka_L} {S : List Value} {h : ka_H} {w : Int} (h0 : -2147483648 ≤ w) (h1 : w < 2147483648) (hk : w < 0 ∨ (Ks.length : Int) ≤ w) : ki_tab 0 Ks Kd L (.int (iI w) :: S) h = Kd L S h := by
  have e : (iI w).toInt = w := iI_toInt ⟨h0, h1⟩
  show (if (iI w).toInt < 0 then Kd L S h else match Ks[((iI w).toInt - 0).toNat]? with
    | some K => K L S h
    | none => Kd L S h) = _
  rw [e]
  by_cases q : w < 0
  · rw [if_pos q]
  · rw [if_neg q, Int.sub_zero, List.getElem?_eq_none (by omega)]
/-- counts -/
def sCnt (mf : Nat → Int) (ma : Nat → Int → Int) (w : Int) : Int :=
  if w = 0 then mf 2 else if w = 1 then mf 3 else if w = 2 then ma 2 0 else if w = 3 then ma 2 1 else if w = 4 then ma 2 2 else if w = 5 then ma 2 3 else if w = 6 then sBins (mf 2) (mf 3) else if w = 7 then mf 9 else if w = 8 then mf 13 else if w = 9 then ma 0 1 else if w = 10 then ma 0 2 else if w = 11 then ma 0 4 else if w = 12 then ma 0 5 else if w = 13 then ma 0 6 else if vIn w 14 19 = true then ma 1 (w - 14) else -1
section M51
variable {N : Nat} {h : ka_H} {a : Nat} {mf : Nat → Int} {ma : Nat → Int → Int}
theorem c_count {w : Int} (sz : mSz mf) (hw : -2147483648 ≤ w ∧ w < 2147483648) : fm_X9_count N [.ref a, .int (iI w)] (mH h a mf ma) = some (iI (sCnt mf ma w), mH h a (mF mf 0 0) ma) := by
  have sz0 : mSz (mF mf 0 0) := sz
  rw [show fm_X9_count N [.ref a, .int (iI w)] (mH h a mf ma) = cm_X9_count_0 N [some (.ref a), some (.int (iI w))] [] (mH h a mf ma) from rfl]
  show (ka_pf (mH h a mf ma) [11] a 0 (.int (iI 0))).bind (fun h1 => ki_tab 0 _ _ [some (.ref a), some (.int (iI w))] [.int (iI w)] h1) = _
  rw [m_p0, Option.bind_some]
  have cs : w = 0 ∨ w = 1 ∨ w = 2 ∨ w = 3 ∨ w = 4 ∨ w = 5 ∨ w = 6 ∨ w = 7 ∨ w = 8 ∨ w = 9 ∨ w = 10 ∨ w = 11 ∨ w = 12 ∨ w = 13 ∨ (w < 0 ∨ 14 ≤ w) := by omega
  rcases cs with e | e | e | e | e | e | e | e | e | e | e | e | e | e | e
  · subst e
    rw [tab_k (by omega) (by omega) rfl]
    show (ka_gi (mH h a (mF mf 0 0) ma) [11] a 2).bind (fun v => some (v, _)) = _
    rw [m_g2]
    rfl
  · subst e
    rw [tab_k (by omega) (by omega) rfl]
    show (ka_gi (mH h a (mF mf 0 0) ma) [11] a 3).bind (fun v => some (v, _)) = _
    rw [m_g3]
    rfl
  · subst e
    rw [tab_k (by omega) (by omega) rfl]
    show (ka_gr (mH h a (mF mf 0 0) ma) [11] a 6).bind (fun v => (ka_ld 0 (mH h a (mF mf 0 0) ma) v (iI 0)).bind (fun v => some (v, _))) = _
    rw [m_r6, Option.bind_some, m_l6 (by omega) (by omega)]
    rfl
  · subst e
    rw [tab_k (by omega) (by omega) rfl]
    show (ka_gr (mH h a (mF mf 0 0) ma) [11] a 6).bind (fun v => (ka_ld 0 (mH h a (mF mf 0 0) ma) v (iI 1)).bind (fun v => some (v, _))) = _
    rw [m_r6, Option.bind_some, m_l6 (by omega) (by omega)]
    rfl
  · subst e
    rw [tab_k (by omega) (by omega) rfl]
    show (ka_gr (mH h a (mF mf 0 0) ma) [11] a 6).bind (fun v => (ka_ld 0 (mH h a (mF mf 0 0) ma) v (iI 2)).bind (fun v => some (v, _))) = _
    rw [m_r6, Option.bind_some, m_l6 (by omega) (by omega)]
    rfl
  · subst e
    rw [tab_k (by omega) (by omega) rfl]
    show (ka_gr (mH h a (mF mf 0 0) ma) [11] a 6).bind (fun v => (ka_ld 0 (mH h a (mF mf 0 0) ma) v (iI 3)).bind (fun v => some (v, _))) = _
    rw [m_r6, Option.bind_some, m_l6 (by omega) (by omega)]
    rfl
  · subst e
    rw [tab_k (by omega) (by omega) rfl]
    show (if ka_isc (mH h a (mF mf 0 0) ma) [11] a = true then (fm_X9_bins N [.ref a] (mH h a (mF mf 0 0) ma)).bind (fun r => some (r.1, r.2)) else none) = _
    rw [if_pos m_isc, c_bins sz0]
    rfl
  · subst e
    rw [tab_k (by omega) (by omega) rfl]
    show (ka_gi (mH h a (mF mf 0 0) ma) [11] a 9).bind (fun v => some (v, _)) = _
    rw [m_g9]
    rfl
  · subst e
    rw [tab_k (by omega) (by omega) rfl]
    show (ka_gi (mH h a (mF mf 0 0) ma) [11] a 13).bind (fun v => some (v, _)) = _
    rw [m_g13]
    rfl
  · subst e
    rw [tab_k (by omega) (by omega) rfl]
    show (ka_gr (mH h a (mF mf 0 0) ma) [11] a 4).bind (fun v => (ka_ld 0 (mH h a (mF mf 0 0) ma) v (iI 1)).bind (fun v => some (v, _))) = _
    rw [m_r4, Option.bind_some, m_l4 (by omega) (by omega)]
    rfl
  · subst e
    rw [tab_k (by omega) (by omega) rfl]
    show (ka_gr (mH h a (mF mf 0 0) ma) [11] a 4).bind (fun v => (ka_ld 0 (mH h a (mF mf 0 0) ma) v (iI 2)).bind (fun v => some (v, _))) = _
    rw [m_r4, Option.bind_some, m_l4 (by omega) (by omega)]
    rfl
  · subst e
    rw [tab_k (by omega) (by omega) rfl]
    show (ka_gr (mH h a (mF mf 0 0) ma) [11] a 4).bind (fun v => (ka_ld 0 (mH h a (mF mf 0 0) ma) v (iI 4)).bind (fun v => some (v, _))) = _
    rw [m_r4, Option.bind_some, m_l4 (by omega) (by omega)]
    rfl
  · subst e
    rw [tab_k (by omega) (by omega) rfl]
    show (ka_gr (mH h a (mF mf 0 0) ma) [11] a 4).bind (fun v => (ka_ld 0 (mH h a (mF mf 0 0) ma) v (iI 5)).bind (fun v => some (v, _))) = _
    rw [m_r4, Option.bind_some, m_l4 (by omega) (by omega)]
    rfl
  · subst e
    rw [tab_k (by omega) (by omega) rfl]
    show (ka_gr (mH h a (mF mf 0 0) ma) [11] a 4).bind (fun v => (ka_ld 0 (mH h a (mF mf 0 0) ma) v (iI 6)).bind (fun v => some (v, _))) = _
    rw [m_r4, Option.bind_some, m_l4 (by omega) (by omega)]
    rfl
  · rw [tab_d hw.1 hw.2 (by exact e)]
    show (fm_X9_in N [.long (iI w).toInt64, .long (lI 14), .long (lI 19)] (mH h a (mF mf 0 0) ma)).bind (fun r => if (if r.1 = true then iI 1 else iI 0) = iI 0 then some (iI (-1), r.2) else (ka_gr r.2 [11] a 5).bind (fun v => (ka_ld 0 r.2 v (iI w - iI 14)).bind (fun v => some (v, r.2)))) = _
    rw [iI_long hw.1 hw.2, c_in (by omega) (by omega) (by omega) (by omega) (by omega) (by omega), Option.bind_some]
    dsimp only
    have es : sCnt mf ma w = if vIn w 14 19 = true then ma 1 (w - 14) else -1 := by
      unfold sCnt
      rw [if_neg (by omega), if_neg (by omega), if_neg (by omega), if_neg (by omega), if_neg (by omega), if_neg (by omega), if_neg (by omega), if_neg (by omega), if_neg (by omega), if_neg (by omega), if_neg (by omega), if_neg (by omega), if_neg (by omega), if_neg (by omega)]
    rw [es]
    by_cases q : vIn w 14 19 = true
    · have b := of_decide_eq_true q
      rw [if_neg (c := (if vIn w 14 19 = true then iI 1 else iI 0) = iI 0) (by rw [q]; exact tb1), if_pos q, m_r5, Option.bind_some, iI_sub, m_l5 (by omega) (by omega), Option.bind_some]
    · rw [if_pos (c := (if vIn w 14 19 = true then iI 1 else iI 0) = iI 0) (by simp [q]), if_neg q]
def sNof (tall g : Int) (r : Int → Int) (n w : Int) : Int := if w = 0 then r (176 + 14 * n) else if w = 1 then r (176 + 14 * n + 1) else if w = 2 then sSpan tall r n else if w = 3 then sSm tall g r n else if vIn w 10 (9 + 2 * r (176 + 14 * n + 1)) = true then r (176 + 14 * n + 2 + w - 10) else -1
theorem c_netOf {n w : Int} (hN : 5000 ≤ N) (v : vOk (ma 2)) (tm : tmOk (ma 1)) (hn : -2147483648 ≤ n ∧ n < 2147483648) (hw : -2147483648 ≤ w ∧ w < 2147483648) : fm_X9_netOf N [.ref a, .int (iI n), .int (iI w)] (mH h a mf ma) = some (iI (if vIn n 0 (ma 2 3 - 1) = true then sNof (ma 1 4) (ma 1 0) (ma 2) n w else -1), mH h a (mF mf 0 0) ma) := by
  have g3 := v.1.2.2.2.2.1
  rw [show fm_X9_netOf N [.ref a, .int (iI n), .int (iI w)] (mH h a mf ma) = cm_X9_netOf_0 N [some (.ref a), some (.int (iI n)), some (.int (iI w))] [] (mH h a mf ma) from rfl]
  show (ka_pf (mH h a mf ma) [11] a 0 (.int (iI 0))).bind (fun h1 => if ka_isc h1 [11] a = true then (fm_X9_isNet N [.ref a, .int (iI n)] h1).bind (fun r => if ¬ (if r.1 = true then iI 1 else iI 0) = iI 0 then ki_tab 0 _ _ [some (.ref a), some (.int (iI n)), some (.int (iI w))] [.int (iI w)] r.2 else some (iI (-1), r.2)) else none) = _
  rw [m_p0, Option.bind_some, if_pos m_isc, c_isNet hn v.1.1, Option.bind_some]
  dsimp only
  by_cases q1 : vIn n 0 (ma 2 3 - 1) = true
  · have b1 := of_decide_eq_true q1
    obtain ⟨k1, k2⟩ := v.2.1 n (by omega) (by omega)
    rw [if_pos (c := ¬ (if vIn n 0 (ma 2 3 - 1) = true then iI 1 else iI 0) = iI 0) (by rw [q1]; exact tb1), if_pos q1]
    have cs : w = 0 ∨ w = 1 ∨ w = 2 ∨ w = 3 ∨ (w < 0 ∨ 4 ≤ w) := by omega
    rcases cs with e | e | e | e | e
    · subst e
      rw [tab_k (by omega) (by omega) rfl]
      show (ka_gr (mH h a (mF mf 0 0) ma) [11] a 6).bind (fun v => (fm_X9_netAt N [.int (iI n)] (mH h a (mF mf 0 0) ma)).bind (fun r => (ka_ld 0 r.2 v r.1).bind (fun v => some (v, r.2)))) = _
      rw [m_r6, Option.bind_some, c_netAt, Option.bind_some]
      dsimp only
      rw [m_l6 (by omega) (by omega)]
      rfl
    · subst e
      rw [tab_k (by omega) (by omega) rfl]
      show (if ka_isc (mH h a (mF mf 0 0) ma) [11] a = true then (fm_X9_pinMany N [.ref a, .int (iI n)] (mH h a (mF mf 0 0) ma)).bind (fun r => some (r.1, r.2)) else none) = _
      rw [if_pos m_isc, c_pinMany (by omega) (by omega)]
      rfl
    · subst e
      rw [tab_k (by omega) (by omega) rfl]
      show (if ka_isc (mH h a (mF mf 0 0) ma) [11] a = true then (fm_X9_span N [.ref a, .int (iI n)] (mH h a (mF mf 0 0) ma)).bind (fun r => some (r.1, r.2)) else none) = _
      rw [if_pos m_isc, c_span hN v.1 v.2.1 (by omega) (by omega)]
      rfl
    · subst e
      rw [tab_k (by omega) (by omega) rfl]
      show (if ka_isc (mH h a (mF mf 0 0) ma) [11] a = true then (fm_X9_smooth N [.ref a, .int (iI n)] (mH h a (mF mf 0 0) ma)).bind (fun r => some (r.1, r.2)) else none) = _
      rw [if_pos m_isc, c_smooth hN v.1 v.2.1 tm (by omega) (by omega)]
      rfl
    · rw [tab_d hw.1 hw.2 (by exact e)]
      show (if ka_isc (mH h a (mF mf 0 0) ma) [11] a = true then (fm_X9_pinMany N [.ref a, .int (iI n)] (mH h a (mF mf 0 0) ma)).bind (fun r => (fm_X9_in N [.long (iI w).toInt64, .long (lI 10), .long (lI 9 + (iI 2 * r.1).toInt64)] r.2).bind (fun r2 => if (if r2.1 = true then iI 1 else iI 0) = iI 0 then some (iI (-1), r2.2) else (ka_gr r2.2 [11] a 6).bind (fun v => (fm_X9_netAt N [.int (iI n)] r2.2).bind (fun r3 => (ka_ld 0 r3.2 v (r3.1 + iI 2 + iI w - iI 10)).bind (fun v => some (v, r3.2)))))) else none) = _
      rw [if_pos m_isc, c_pinMany (by omega) (by omega), Option.bind_some]
      dsimp only
      rw [iI_mul, iI_long hw.1 hw.2, iI_long (by omega) (by omega), lI_add, c_in (by omega) (by omega) (by omega) (by omega) (by omega) (by omega), Option.bind_some]
      dsimp only
      unfold sNof
      rw [if_neg (c := w = 0) (by omega), if_neg (c := w = 1) (by omega), if_neg (c := w = 2) (by omega), if_neg (c := w = 3) (by omega)]
      by_cases q : vIn w 10 (9 + 2 * ma 2 (176 + 14 * n + 1)) = true
      · have b := of_decide_eq_true q
        rw [if_neg (c := (if vIn w 10 (9 + 2 * ma 2 (176 + 14 * n + 1)) = true then iI 1 else iI 0) = iI 0) (by rw [q]; exact tb1), if_pos q, m_r6, Option.bind_some, c_netAt, Option.bind_some]
        dsimp only
        rw [iI_add, iI_add, iI_sub, m_l6 (by omega) (by omega), Option.bind_some]
      · rw [if_pos (c := (if vIn w 10 (9 + 2 * ma 2 (176 + 14 * n + 1)) = true then iI 1 else iI 0) = iI 0) (by simp [q]), if_neg q]
  · rw [if_neg (c := ¬ (if vIn n 0 (ma 2 3 - 1) = true then iI 1 else iI 0) = iI 0) (by simp [q1]), if_neg q1]
def sBin (t : Int → Int) (rows sites : Int) (r : Int → Int) (b w : Int) : Int := if w = 0 then sSup rows sites r b else if w = 1 then sNeed sites r b else if w = 2 then sOver (t 1) sites r (sSup rows sites r) b else if w = 3 then sDem sites r b else -1
theorem sOver_u {t sites : Int} {r u u' : Int → Int} {b : Int} (h : u b = u' b) : sOver t sites r u b = sOver t sites r u' b := by
  unfold sOver
  rw [h]
theorem c_bin {b w : Int} (hN : 5000 ≤ N) (v : vOk (ma 2)) (sz : mSz mf) (tm : tmOk (ma 1)) (hb : -2147483648 ≤ b ∧ b < 2147483648) (hw : -2147483648 ≤ w ∧ w < 2147483648) : ∃ ma', mNilP mf ma (mF mf 0 0) ma' ∧ fm_X9_bin N [.ref a, .int (iI b), .int (iI w)] (mH h a mf ma) = some (iI (if vIn b 0 (sBins (mf 2) (mf 3) - 1) = true then sBin (ma 1) (mf 2) (mf 3) (ma 2) b w else -1), mH h a (mF mf 0 0) ma') := by
  have sz0 : mSz (mF mf 0 0) := sz
  have e2 : mF mf 0 0 2 = mf 2 := rfl
  have e3 : mF mf 0 0 3 = mf 3 := rfl
  have sb := sBins_b sz.1 sz.2
  rw [show fm_X9_bin N [.ref a, .int (iI b), .int (iI w)] (mH h a mf ma) = cm_X9_bin_0 N [some (.ref a), some (.int (iI b)), some (.int (iI w))] [] (mH h a mf ma) from rfl]
  rw [show cm_X9_bin_0 N [some (.ref a), some (.int (iI b)), some (.int (iI w))] [] (mH h a mf ma) = (ka_pf (mH h a mf ma) [11] a 0 (.int (iI 0))).bind (fun h1 => if ka_isc h1 [11] a = true then (fm_X9_bins N [.ref a] h1).bind (fun r => (fm_X9_in N [.long (iI b).toInt64, .long (lI 0), .long (r.1.toInt64 - lI 1)] r.2).bind (fun r2 => if ¬ (if r2.1 = true then iI 1 else iI 0) = iI 0 then (if ka_isc r2.2 [11] a = true then (fm_X9_laySupply N [.ref a] r2.2).bind (fun r3 => ki_tab 0 _ _ [some (.ref a), some (.int (iI b)), some (.int (iI w))] [.int (iI w)] r3) else none) else some (iI (-1), r2.2))) else none) from rfl]
  rw [m_p0, Option.bind_some, if_pos m_isc, c_bins sz0, Option.bind_some, e2, e3]
  dsimp only
  rw [iI_long hb.1 hb.2, iI_long (by omega) (by omega), lI_sub, c_in (by omega) (by omega) (by omega) (by omega) (by omega) (by omega), Option.bind_some]
  dsimp only
  by_cases q1 : vIn b 0 (sBins (mf 2) (mf 3) - 1) = true
  · have b1 := of_decide_eq_true q1
    rw [if_pos (c := ¬ (if vIn b 0 (sBins (mf 2) (mf 3) - 1) = true then iI 1 else iI 0) = iI 0) (by rw [q1]; exact tb1), if_pos q1, if_pos m_isc, c_laySupply hN v.1 sz0, Option.bind_some, e2, e3]
    generalize hu : rCp (sSup (mf 2) (mf 3) (ma 2)) (ma 24) 0 0 (sBins (mf 2) (mf 3)) = u
    have hub : u b = sSup (mf 2) (mf 3) (ma 2) b := by rw [← hu, rCp_00 b1.1 (by omega)]
    refine ⟨mA ma 24 u, ⟨⟨rfl, rfl, rfl, rfl, rfl, rfl⟩, mA_n (by decide), mA_n (by decide), mA_n (by decide), mA_n (by decide), mA_n (by decide), mA_n (by decide)⟩, ?_⟩
    have cs : w = 0 ∨ w = 1 ∨ w = 2 ∨ w = 3 ∨ (w < 0 ∨ 4 ≤ w) := by omega
    rcases cs with e | e | e | e | e
    · subst e
      rw [tab_k (by omega) (by omega) rfl]
      show (ka_gr (mH h a (mF mf 0 0) (mA ma 24 u)) [11] a 36).bind (fun v => (ka_ld 0 (mH h a (mF mf 0 0) (mA ma 24 u)) v (iI b)).bind (fun v => some (v, _))) = _
      rw [m_r36, Option.bind_some, m_l36 (by omega) (by omega), mA_2, hub]
      rfl
    · subst e
      have c1 := c_needOf (N := N) (h := h) (a := a) (mf := mF mf 0 0) (ma := mA ma 24 u) (b := b) hN (by rw [mA_n (by decide)]; exact v.1) sz0 (by omega)
      rw [mA_n (by decide), e3] at c1
      rw [tab_k (by omega) (by omega) rfl]
      show (if ka_isc (mH h a (mF mf 0 0) (mA ma 24 u)) [11] a = true then (fm_X9_needOf N [.ref a, .int (iI b)] (mH h a (mF mf 0 0) (mA ma 24 u))).bind (fun r => some (r.1, r.2)) else none) = _
      rw [if_pos m_isc, c1]
      rfl
    · subst e
      have c1 := c_over (N := N) (h := h) (a := a) (mf := mF mf 0 0) (ma := mA ma 24 u) (b := b) hN (by rw [mA_n (by decide)]; exact v.1) sz0 (by rw [mA_n (by decide)]; exact tm) (by omega) (by rw [mA_2, hub]; exact sSup_b _ _ _ _)
      rw [mA_n (by decide), mA_n (by decide), mA_2, e3, sOver_u hub] at c1
      rw [tab_k (by omega) (by omega) rfl]
      show (if ka_isc (mH h a (mF mf 0 0) (mA ma 24 u)) [11] a = true then (fm_X9_over N [.ref a, .int (iI b)] (mH h a (mF mf 0 0) (mA ma 24 u))).bind (fun r => some (r.1, r.2)) else none) = _
      rw [if_pos m_isc, c1]
      rfl
    · subst e
      have c1 := c_demand (N := N) (h := h) (a := a) (mf := mF mf 0 0) (ma := mA ma 24 u) (b := b) hN (by rw [mA_n (by decide)]; exact v.1) (by rw [mA_n (by decide)]; exact v.2.1) sz0 (by omega)
      rw [mA_n (by decide), e3] at c1
      rw [tab_k (by omega) (by omega) rfl]
      show (if ka_isc (mH h a (mF mf 0 0) (mA ma 24 u)) [11] a = true then (fm_X9_demand N [.ref a, .int (iI b)] (mH h a (mF mf 0 0) (mA ma 24 u))).bind (fun r => some (r.1, r.2)) else none) = _
      rw [if_pos m_isc, c1]
      rfl
    · rw [tab_d hw.1 hw.2 (by exact e)]
      unfold sBin
      rw [if_neg (c := w = 0) (by omega), if_neg (c := w = 1) (by omega), if_neg (c := w = 2) (by omega), if_neg (c := w = 3) (by omega)]
      rfl
  · rw [if_neg (c := ¬ (if vIn b 0 (sBins (mf 2) (mf 3) - 1) = true then iI 1 else iI 0) = iI 0) (by simp [q1]), if_neg q1]
    exact ⟨ma, ⟨⟨rfl, rfl, rfl, rfl, rfl, rfl⟩, rfl, rfl, rfl, rfl, rfl, rfl⟩, rfl⟩
end M51
