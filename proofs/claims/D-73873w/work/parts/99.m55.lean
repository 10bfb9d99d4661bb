/-! ===== the model: windows of all runs ===== -/
def sWnJ (tall : Int) (k : Nat) (R : Int) (x : (Int → Int) × List Int) : Nat → (Int → Int) × List Int
  | 0 => x
  | j + 1 => (rGs (lPW (sWnJ tall k R x j).1 (sWnJ tall k R x j).2 j k R (sWb tall (sWnJ tall k R x j).1 (sWnJ tall k R x j).2 j k R) k) (sWnJ tall k R x j).1, lWin (sWnJ tall k R x j).2 j k (sWb tall (sWnJ tall k R x j).1 (sWnJ tall k R x j).2 j k R))
def rWnA (tall : Int) (k : Nat) (r : Int → Int) (L : List (Int × Int × Int × Int)) : Nat → Int → Int
  | 0 => r
  | i + 1 => match L[i]? with
    | none => rWnA tall k r L i
    | some x => (sWnJ tall k x.1 (rWnA tall k r L i, lLies (rWnA tall k r L i) x.1 x.2.2.1 x.2.2.2.toNat) ((lLies (rWnA tall k r L i) x.1 x.2.2.1 x.2.2.2.toNat).length + 1 - k)).1
/-- fixed cells stay -/
def sameF (r r' : Int → Int) : Prop := ∀ c : Int, 0 ≤ c → c < r 2 → r (36 + 7 * c + 2) = 1 → r' (36 + 7 * c + 5) = r (36 + 7 * c + 5) ∧ r' (36 + 7 * c + 6) = r (36 + 7 * c + 6)
theorem sameF_r (r : Int → Int) : sameF r r := fun _ _ _ _ => ⟨rfl, rfl⟩
theorem sameF_t {r r' r'' : Int → Int} (x : sameX r r') (g : r 2 ≤ 20) (h1 : sameF r r') (h2 : sameF r' r'') : sameF r r'' := by
  intro c c0 c1 hf
  have a := h1 c c0 c1 hf
  have b := h2 c c0 (by rw [x 2 (by omega)]; exact c1) (by rw [x _ (by omega)]; exact hf)
  exact ⟨by rw [b.1, a.1], by rw [b.2, a.2]⟩
theorem sCel_fx {r r' : Int → Int} (x : sameX r r') (f : sameF r r') (g : 0 ≤ r 2 ∧ r 2 ≤ 20) (R S but : Int) : sCel r' R S but true = sCel r R S but true := by
  unfold sCel
  rw [x 2 (by omega)]
  refine aL_congr (fun c hc => ?_)
  unfold sThere
  have e1 : sFix r' c = sFix r c := by
    unfold sFix
    rw [x (36 + 7 * c + 2) (by omega)]
  rw [e1]
  by_cases q : sFix r c = true
  · have hf := f c (by omega) (by omega) (of_decide_eq_true q)
    unfold sCov
    rw [hf.1, hf.2, x (36 + 7 * c) (by omega)]
  · simp [q]
theorem lAll_x {rows sites : Int} {r r' : Int → Int} (x : sameX r r') (f : sameF r r') (ok : rOk r) (n : Nat) : lAll rows sites r' n = lAll rows sites r n := by
  have e : ∀ R S F, sRunS rows sites r' R S F = sRunS rows sites r R S F := by
    intro R S F
    unfold sRunS
    rw [sBar_x x ok.2.1.1 ok.2.1.2, sFen_x x ok.2.2.1.1 ok.2.2.1.2, sCel_fx x f ok.2.2.2.1]
  have e2 : ∀ R F s, lRow rows sites r' R F s = lRow rows sites r R F s := by
    intro R F s
    unfold lRow
    simp only [e]
  have e3 : ∀ R m, lRowN rows sites r' R m = lRowN rows sites r R m := by
    intro R m
    induction m with
    | zero => rfl
    | succ m ih => rw [lRowN, lRowN, ih, e2]
  induction n with
  | zero => rfl
  | succ n ih => rw [lAll, lAll, ih, e3, x 1 (by omega)]
theorem lWin_mem {ls : List Int} {j k : Nat} {o : List Int} (ho : o.Perm (idL k)) (hjk : j + k ≤ ls.length) : ∀ c, c ∈ lWin ls j k o → c ∈ ls := by
  intro c hc
  obtain ⟨m, m1, m2⟩ := lg_of_mem hc
  rw [lWin_len] at m1
  rw [lWin_lg m1] at m2
  split at m2
  · next q =>
    have := perm_b ho (show m - j < k by omega)
    rw [← m2]
    exact lg_mem (by omega)
  · rw [← m2]
    exact lg_mem m1
/-- a cell of a run isn't fixed -/
theorem wn_nf {rows sites : Int} {r : Int → Int} (ok : rOk r) (hs : 0 ≤ sites) {x : Int × Int × Int × Int} {n : Nat} (hx : x ∈ lAll rows sites r n) : ∀ c, c ∈ lLies r x.1 x.2.2.1 x.2.2.2.toNat → r (36 + 7 * c + 2) ≠ 1 := by
  intro c hc hf
  obtain ⟨a1, a2, a3, a4, a5, a6⟩ := lAll_ok n hs hx
  have g2 := ok.2.2.2.1
  obtain ⟨b1, b2, b3, b4⟩ := lLies_in g2.1 c hc
  have hw := ok.2.2.2.2.2 c b1.1 b1.2
  have s0 := sRunS_iff.mp (a6 (r (36 + 7 * c + 6)) b3 (by omega))
  obtain ⟨m, rfl⟩ : ∃ m : Nat, c = m := ⟨c.toNat, by omega⟩
  exact sCel_none s0.2.2.2.1 (c := m) (by omega) (by omega) (fun _ => decide_eq_true hf) ⟨b2, by omega, by omega⟩
/-- all that holds between windows of a run -/
def wnI (rows sites : Int) (r0 q : Int → Int) (R fi lo : Int) (ls0 ls : List Int) : Prop := vOk q ∧ sameX r0 q ∧ sameF r0 q ∧ laOk rows sites q ∧ ovOk q ∧ wnOk q R fi lo ls ∧ (∀ c, c ∈ ls → c ∈ ls0) ∧ ls.length = ls0.length
theorem wnI_step {rows sites tall : Int} {r0 q : Int → Int} {R fi lo F : Int} {ls0 ls : List Int} {j k : Nat} (i : wnI rows sites r0 q R fi lo ls0 ls) (ok0 : rOk r0) (s1 : rows ≤ 8) (s2 : sites ≤ 32) (hR : 0 ≤ R ∧ R < rows) (hfi : 0 ≤ fi ∧ fi + lo ≤ sites) (hrun : ∀ z, fi ≤ z → z < fi + lo → sBar r0 R z = false ∧ sFen r0 R z = F) (hnf : ∀ c, c ∈ ls0 → r0 (36 + 7 * c + 2) ≠ 1) (hk : 2 ≤ k ∧ k ≤ 4) (hjk : j + k ≤ ls.length) :
    wnI rows sites r0 (rGs (lPW q ls j k R (sWb tall q ls j k R) k) q) R fi lo ls0 (lWin ls j k (sWb tall q ls j k R)) := by
  obtain ⟨v, sx, sf, la, ov, wn, hm, hl⟩ := i
  have pb := sWb_perm tall q ls j k R (by omega)
  obtain ⟨⟨w1, w2⟩, w3, w4, w5⟩ := wn_step v la ov wn s1 s2 hR hfi (fun z z0 z1 => by rw [sBar_x sx ok0.2.1.1 ok0.2.1.2, sFen_x sx ok0.2.2.1.1 ok0.2.2.1.2]; exact hrun z z0 z1) (by omega) hjk pb
  refine ⟨w1, sameX_t sx w2, ?_, w3, w4, w5, fun c hc => hm c (lWin_mem pb hjk c hc), by rw [lWin_len]; exact hl⟩
  refine sameF_t sx ok0.2.2.2.1.2 sf ?_
  intro c c0 c1 hf
  have ne : ∀ x, x ∈ lPW q ls j k R (sWb tall q ls j k R) k → c ≠ x.1 := by
    intro x hx e
    obtain ⟨m, m1, m2⟩ := lPW_fst hx
    have b := perm_b pb m1
    subst m2
    dsimp only at e
    have hin : c ∈ ls := by
      rw [e]
      exact lg_mem (by omega)
    have := hnf c (hm c hin)
    rw [sx _ (by omega)] at hf
    exact this hf
  exact ⟨rGs_n (fun x hx => ⟨by have := ne x hx; omega, by have := ne x hx; omega⟩), rGs_n (fun x hx => ⟨by have := ne x hx; omega, by have := ne x hx; omega⟩)⟩
theorem wnI_all {rows sites tall : Int} {r0 : Int → Int} {R fi lo F : Int} {ls0 : List Int} {k : Nat} (i : wnI rows sites r0 r0 R fi lo ls0 ls0) (ok0 : rOk r0) (s1 : rows ≤ 8) (s2 : sites ≤ 32) (hR : 0 ≤ R ∧ R < rows) (hfi : 0 ≤ fi ∧ fi + lo ≤ sites) (hrun : ∀ z, fi ≤ z → z < fi + lo → sBar r0 R z = false ∧ sFen r0 R z = F) (hnf : ∀ c, c ∈ ls0 → r0 (36 + 7 * c + 2) ≠ 1) (hk : 2 ≤ k ∧ k ≤ 4) (n : Nat) (hn : n ≤ ls0.length + 1 - k) : wnI rows sites r0 (sWnJ tall k R (r0, ls0) n).1 R fi lo ls0 (sWnJ tall k R (r0, ls0) n).2 := by
  induction n with
  | zero => exact i
  | succ n ih =>
    have := ih (by omega)
    have hl := this.2.2.2.2.2.2.2
    exact wnI_step this ok0 s1 s2 hR hfi hrun hnf hk (by omega)
/-- what windows keep, run by run -/
theorem rWnA_ok {rows sites tall : Int} {r : Int → Int} {k : Nat} (v : vOk r) (la : laOk rows sites r) (ov : ovOk r) (s1 : 1 ≤ rows ∧ rows ≤ 8) (s2 : 8 ≤ sites ∧ sites ≤ 32) (hk : 2 ≤ k ∧ k ≤ 4) (i : Nat) : vOk (rWnA tall k r (lAll rows sites r rows.toNat) i) ∧ sameX r (rWnA tall k r (lAll rows sites r rows.toNat) i) ∧ sameF r (rWnA tall k r (lAll rows sites r rows.toNat) i) ∧ laOk rows sites (rWnA tall k r (lAll rows sites r rows.toNat) i) ∧ ovOk (rWnA tall k r (lAll rows sites r rows.toNat) i) := by
  induction i with
  | zero => exact ⟨v, sameX_r r, sameF_r r, la, ov⟩
  | succ i ih =>
    obtain ⟨i1, i2, i3, i4, i5⟩ := ih
    rw [rWnA]
    cases e : (lAll rows sites r rows.toNat)[i]? with
    | none => exact ⟨i1, i2, i3, i4, i5⟩
    | some x =>
      dsimp only
      generalize rWnA tall k r (lAll rows sites r rows.toNat) i = q at i1 i2 i3 i4 i5
      have hx : x ∈ lAll rows sites q rows.toNat := by
        rw [lAll_x i2 i3 v.1]
        exact List.mem_of_getElem? e
      obtain ⟨a1, a2, a3, a4, a5, a6⟩ := lAll_ok rows.toNat (by omega) hx
      have w0 := wn_init i1.1 i4 i5 s1 (by omega) hx
      have wi := wnI_all (tall := tall) (k := k) (F := x.2.1) (rows := rows) (sites := sites) (r0 := q) (R := x.1) (fi := x.2.2.1) (lo := x.2.2.2) (ls0 := lLies q x.1 x.2.2.1 x.2.2.2.toNat) ⟨i1, sameX_r q, sameF_r q, i4, i5, w0, fun _ h => h, rfl⟩ i1.1 s1.2 s2.2 (by omega) (by omega) (fun z z0 z1 => by
        have := sRunS_iff.mp (a6 z z0 z1)
        exact ⟨this.2.2.1, this.2.2.2.2⟩) (wn_nf i1.1 (by omega) hx) hk ((lLies q x.1 x.2.2.1 x.2.2.2.toNat).length + 1 - k) (Nat.le_refl _)
      exact ⟨wi.1, sameX_t i2 wi.2.1, sameF_t i2 v.1.2.2.2.1.2 i3 wi.2.2.1, wi.2.2.2.1, wi.2.2.2.2.1⟩
section M55
variable {N : Nat} {h : ka_H} {a : Nat} {mf : Nat → Int} {ma : Nat → Int → Int}
theorem c_windows58 {rows sites : Int} {R fi lo F had i : Int} {ls0 : List Int} {k : Nat} (K42 : ka_K (Int32 × ka_H)) (hN : 5000 ≤ N) (tm : tmOk (ma 1)) (w0 : wnI rows sites (ma 2) (ma 2) R fi lo ls0 ls0) (s1 : rows ≤ 8) (s2 : sites ≤ 32) (hR : 0 ≤ R ∧ R < rows) (hfi : 0 ≤ fi ∧ fi + lo ≤ sites) (hrun : ∀ z, fi ≤ z → z < fi + lo → sBar (ma 2) R z = false ∧ sFen (ma 2) R z = F) (hnf : ∀ c, c ∈ ls0 → ma 2 (36 + 7 * c + 2) ≠ 1) (hk : 2 ≤ k ∧ k ≤ 4) (hl : ls0.length ≤ 20) (h20 : mf 20 = ls0.length) (i12 : rIs (ma 12) ls0) (hi : 0 ≤ i ∧ i < 256) (h8 : ma 8 i = R) :
    ∃ ma', mV ma ma' ∧ ma' 2 = (sWnJ (ma 1 4) k R (ma 2, ls0) (ls0.length + 1 - k)).1 ∧ ki_fix (cm_X9_windows_58 N K42) N [some (.ref a), some (.int (iI k)), some (.int (iI had)), some (.int (iI i)), some (.int (iI 0))] [] (mH h a mf ma) = K42 [some (.ref a), some (.int (iI k)), some (.int (iI had)), some (.int (iI (i + 1)))] [] (mH h a mf ma') := by
  have key := fix_ms (B := cm_X9_windows_58 N K42) (fun x : Nat × (Nat → Int → Int) => [some (.ref a), some (.int (iI k)), some (.int (iI had)), some (.int (iI i)), some (.int (iI x.1))]) (fun x => mH h a mf x.2) (fun x => x.1 ≤ ls0.length + 1 - k ∧ mV ma x.2 ∧ x.2 2 = (sWnJ (ma 1 4) k R (ma 2, ls0) x.1).1 ∧ rIs (x.2 12) (sWnJ (ma 1 4) k R (ma 2, ls0) x.1).2) (fun x => ls0.length + 1 - k - x.1) (fun z => ∃ ma', mV ma ma' ∧ ma' 2 = (sWnJ (ma 1 4) k R (ma 2, ls0) (ls0.length + 1 - k)).1 ∧ z = K42 [some (.ref a), some (.int (iI k)), some (.int (iI had)), some (.int (iI (i + 1)))] [] (mH h a mf ma')) ?_ N (0, ma) ⟨by dsimp only; omega, fun _ _ _ _ _ _ _ => rfl, rfl, i12⟩ (by dsimp only; omega)
  · exact key
  · rintro K ⟨j, ma1⟩ ⟨p1, p2, p3, p4⟩
    dsimp only at p1 p2 p3 p4 ⊢
    by_cases e : j = ls0.length + 1 - k
    · left
      subst e
      refine ⟨ma1, p2, p3, ?_⟩
      rw [eq_X9_windows_58, m_g20, Option.bind_some, h20, iI_add, if_pos ((iI_lt ⟨by omega, by omega⟩ ⟨by omega, by omega⟩).mpr (by omega)), iI_add]
    · right
      have wi := wnI_all (tall := ma 1 4) (k := k) w0 w0.1.1 s1 s2 hR hfi hrun hnf hk j p1
      have ok0 := w0.1.1
      have e1 : ma1 1 = ma 1 := p2 1 (by decide) (by decide) (by decide) (by decide) (by decide) (by decide)
      have e8 : ma1 8 = ma 8 := p2 8 (by decide) (by decide) (by decide) (by decide) (by decide) (by decide)
      have hlen := wi.2.2.2.2.2.2.2
      obtain ⟨ma2, y1, y2, y3, y4⟩ := c_window (N := N) (h := h) (a := a) (mf := mf) (ma := ma1) (rows := rows) (sites := sites) (r := (sWnJ (ma 1 4) k R (ma 2, ls0) j).1) (R := R) (fi := fi) (lo := lo) (F := F) (ls := (sWnJ (ma 1 4) k R (ma 2, ls0) j).2) (j := j) (k := k) hN p3 wi.1 (by rw [e1]; exact tm) wi.2.2.2.1 wi.2.2.2.2.1 wi.2.2.2.2.2.1 s1 s2 hR hfi (fun z z0 z1 => by rw [sBar_x wi.2.1 ok0.2.1.1 ok0.2.1.2, sFen_x wi.2.1 ok0.2.2.1.1 ok0.2.2.1.2]; exact hrun z z0 z1) hk (by omega) (by omega) p4
      rw [e1] at y2 y3
      refine ⟨(j + 1, ma2), ⟨by dsimp only; omega, fun p a1 a2 a3 a4 a5 a6 => by dsimp only; rw [y1 p a1 a2 a3 a4 a5 a6, p2 p a1 a2 a3 a4 a5 a6], y2, y3⟩, by dsimp only; omega, ?_⟩
      dsimp only
      rw [eq_X9_windows_58, m_g20, Option.bind_some, h20, iI_add, if_neg (fun z => by have := (iI_lt ⟨by omega, by omega⟩ ⟨by omega, by omega⟩).mp z; omega), m_r14, Option.bind_some, m_l14 (by omega) (by omega), Option.bind_some, e8, h8, if_pos m_isc, y4, Option.bind_some, iI_add]
      rfl
theorem c_windows {k : Int} (hN : 5000 ≤ N) (v : vOk (ma 2)) (la : laOk (mf 2) (mf 3) (ma 2)) (ov : ovOk (ma 2)) (sz : mSz mf) (tm : tmOk (ma 1)) (h9 : 0 ≤ mf 9 ∧ mf 9 ≤ 12) (hk : -2147483648 ≤ k ∧ k < 2147483648) :
    if vIn k 2 4 = true then ∃ mf' ma', mYesP mf ma 13 (rWnA (ma 1 4) k.toNat (ma 2) (lAll (mf 2) (mf 3) (ma 2) (mf 2).toNat) (lAll (mf 2) (mf 3) (ma 2) (mf 2).toNat).length) mf' ma' ∧ fm_X9_windows N [.ref a, .int (iI k)] (mH h a mf ma) = some (iI (sWire (ma 1 4) (ma 2) - sWire (ma 1 4) (rWnA (ma 1 4) k.toNat (ma 2) (lAll (mf 2) (mf 3) (ma 2) (mf 2).toNat) (lAll (mf 2) (mf 3) (ma 2) (mf 2).toNat).length)), mH h a mf' ma')
    else fm_X9_windows N [.ref a, .int (iI k)] (mH h a mf ma) = some (iI (-1), mNo h a mf ma (-1)) := by
  have no1 := c_no (N := N) (h := h) (a := a) (mf := mf) (ma := ma) (v := -1) (by omega)
  have s1 := sz.1
  have s2 := sz.2
  rw [en_X9_windows, eq_X9_windows_0, m_p0, Option.bind_some, iI_long hk.1 hk.2, c_in (by omega) (by omega) (by omega) (by omega) (by omega) (by omega), Option.bind_some]
  dsimp only
  by_cases q1 : vIn k 2 4 = true
  · have b1 := of_decide_eq_true q1
    obtain ⟨n, rfl⟩ : ∃ n : Nat, k = n := ⟨k.toNat, by omega⟩
    have e1 : mRem mf ma 13 1 = ma 1 := mRem_n (by decide) (by decide)
    have es : mA (mRem mf ma 13) 2 (ma 2) = mRem mf ma 13 := by
      have : ma 2 = mRem mf ma 13 2 := (mRem_2 mf ma 13).symm
      rw [this, mA_self]
    have w0 := c_wireV (N := N) (h := h) (a := a) (mf := mF (mF mf 0 0) 9 (if mf 9 = 12 then 12 else mf 9 + 1)) (ma := mRem mf ma 13) hN v
    rw [es, e1] at w0
    rw [if_pos q1, if_pos (c := ¬ (if vIn n 2 4 = true then iI 1 else iI 0) = iI 0) (by rw [q1]; exact tb1), if_pos m_isc, c_rem0 hN h9, Option.bind_some, if_pos m_isc, w0, Option.bind_some, Int.toNat_natCast]
    dsimp only
    generalize hm1 : mF (mF mf 0 0) 9 (if mf 9 = 12 then 12 else mf 9 + 1) = mf1
    have sz1 : mSz mf1 := by rw [← hm1]; exact sz
    have f2 : mf1 2 = mf 2 := by rw [← hm1]; rfl
    have f3 : mf1 3 = mf 3 := by rw [← hm1]; rfl
    have lr := c_layRuns (N := N) (h := h) (a := a) (mf := mf1) (ma := mRem mf ma 13) hN (by rw [mRem_2]; exact v.1) sz1
    rw [f2, f3, mRem_2] at lr
    have hL := lAll_lOk (r := ma 2) v.1 sz.1 sz.2
    have rok := rWnA_ok (tall := ma 1 4) (k := n) v la ov sz.1 sz.2 (by omega)
    generalize hLL : lAll (mf 2) (mf 3) (ma 2) (mf 2).toNat = L at hL lr rok
    have l1 := hL.1
    rw [if_pos m_isc, lr, Option.bind_some, mHR]
    have rn := mRun_lay mf1 (mRem mf ma 13) L
    have key := fix_ms (B := cm_X9_windows_42 N) (fun x : Nat × (Nat → Int) × (Nat → Int → Int) => [some (.ref a), some (.int (iI n)), some (.int (iI (sWire (ma 1 4) (ma 2)))), some (.int (iI x.1))]) (fun x => mH h a x.2.1 x.2.2) (fun x => x.1 ≤ L.length ∧ (∀ p, p ≠ 20 → x.2.1 p = mF mf1 18 L.length p) ∧ mV (mRuns (mRem mf ma 13) L) x.2.2 ∧ x.2.2 2 = rWnA (ma 1 4) n (ma 2) L x.1) (fun x => L.length - x.1) (fun z => ∃ mf' ma', mYesP mf ma 13 (rWnA (ma 1 4) n (ma 2) L L.length) mf' ma' ∧ z = some (iI (sWire (ma 1 4) (ma 2) - sWire (ma 1 4) (rWnA (ma 1 4) n (ma 2) L L.length)), mH h a mf' ma')) ?_ N (0, mF mf1 18 L.length, mRuns (mRem mf ma 13) L) ⟨by dsimp only; omega, fun _ _ => rfl, fun _ _ _ _ _ _ _ => rfl, by dsimp only; rw [mRuns_n (by omega), mRem_2]; rfl⟩ (by dsimp only; omega)
    · exact key
    · rintro K ⟨i, mf2, ma2⟩ ⟨p1, p2, p3, p4⟩
      dsimp only at p1 p2 p3 p4 ⊢
      obtain ⟨o1, o2, o3, o4, o5⟩ := rok i
      have t1 : ma2 1 = ma 1 := by rw [p3 1 (by decide) (by decide) (by decide) (by decide) (by decide) (by decide), mRuns_n (by omega)]; exact e1
      have t18 : mf2 18 = L.length := by rw [p2 18 (by decide)]; exact rn.1
      by_cases e : i = L.length
      · left
        subst e
        have w1 := c_wire (N := N) (h := h) (a := a) (mf := mf2) (ma := ma2) hN (by rw [p4]; exact o1.1) (by rw [p4]; exact o1.2.1)
        rw [p4, t1] at w1
        refine ⟨mF mf2 1 0, ma2, ⟨⟨?_, mF_s _ _ _, ?_, ?_, ?_, ?_⟩, ?_, t1, p4, ?_, ?_, ?_⟩, ?_⟩
        · rw [mF_n (by decide), p2 0 (by decide), mF_n (by decide), ← hm1]; rfl
        · rw [mF_n (by decide), p2 2 (by decide), mF_n (by decide), ← hm1]; rfl
        · rw [mF_n (by decide), p2 3 (by decide), mF_n (by decide), ← hm1]; rfl
        · rw [mF_n (by decide), p2 9 (by decide), mF_n (by decide), ← hm1]; rfl
        · rw [mF_n (by decide), p2 13 (by decide), mF_n (by decide), ← hm1]; rfl
        · rw [p3 0 (by decide) (by decide) (by decide) (by decide) (by decide) (by decide), mRuns_n (by omega), mRem_n (by decide) (by decide)]
        · rw [p3 3 (by decide) (by decide) (by decide) (by decide) (by decide) (by decide), mRuns_n (by omega)]
        · rw [p3 4 (by decide) (by decide) (by decide) (by decide) (by decide) (by decide), mRuns_n (by omega)]
        · rw [p3 7 (by decide) (by decide) (by decide) (by decide) (by decide) (by decide), mRuns_n (by omega), mRem_n (by decide) (by decide)]
        · rw [eq_X9_windows_42, m_g18, Option.bind_some, t18, if_pos ((iI_le ⟨by omega, by omega⟩ ⟨by omega, by omega⟩).mpr (by omega)), if_pos m_isc, w1, Option.bind_some]
          dsimp only
          rw [if_pos m_isc, c_tell, Option.bind_some, iI_sub]
      · right
        have hil : i < L.length := by omega
        have hx : L[i]? = some (L[i]'hil) := List.getElem?_eq_getElem hil
        generalize L[i]'hil = x at hx
        have hxx := hL.2 x (List.mem_of_getElem? hx)
        obtain ⟨x8, x9, x10, x11⟩ := rn.2 i x hx
        rw [← p3 8 (by decide) (by decide) (by decide) (by decide) (by decide) (by decide)] at x8
        rw [← p3 10 (by decide) (by decide) (by decide) (by decide) (by decide) (by decide)] at x10
        rw [← p3 11 (by decide) (by decide) (by decide) (by decide) (by decide) (by decide)] at x11
        have ll := c_layLies (N := N) (h := h) (a := a) (mf := mf2) (ma := ma2) (k := i) hN (by rw [p4]; exact o1.1) (by omega) (by omega) (by omega) (by omega)
        rw [p4, x8, x10, x11] at ll
        have hx2 : x ∈ lAll (mf 2) (mf 3) (rWnA (ma 1 4) n (ma 2) L i) (mf 2).toNat := by
          rw [lAll_x o2 o3 v.1, hLL]
          exact List.mem_of_getElem? hx
        obtain ⟨a1, a2, a3, a4, a5, a6⟩ := lAll_ok (mf 2).toNat (by omega) hx2
        have wi0 := wn_init o1.1 o4 o5 sz.1 (by omega) hx2
        have nf := wn_nf o1.1 (by omega) hx2
        have l20 := lLies_20 (rWnA (ma 1 4) n (ma 2) L i) x.1 x.2.2.1 x.2.2.2.toNat o1.1.2.2.2.1.2
        have nxt : rWnA (ma 1 4) n (ma 2) L (i + 1) = (sWnJ (ma 1 4) n x.1 (rWnA (ma 1 4) n (ma 2) L i, lLies (rWnA (ma 1 4) n (ma 2) L i) x.1 x.2.2.1 x.2.2.2.toNat) ((lLies (rWnA (ma 1 4) n (ma 2) L i) x.1 x.2.2.1 x.2.2.2.toNat).length + 1 - n)).1 := by rw [rWnA, hx]
        generalize rWnA (ma 1 4) n (ma 2) L i = q at o1 o2 o3 o4 o5 p4 ll hx2 a1 a2 a3 a4 a5 a6 wi0 nf l20 nxt
        generalize lLies q x.1 x.2.2.1 x.2.2.2.toNat = ls0 at ll wi0 nf l20 nxt
        have q2 : mA ma2 12 (rList ls0 (ma2 12)) 2 = q := by rw [mA_n (by decide), p4]
        obtain ⟨ma3, y1, y2, y3⟩ := c_windows58 (N := N) (h := h) (a := a) (mf := mF mf2 20 ls0.length) (ma := mA ma2 12 (rList ls0 (ma2 12))) (rows := mf 2) (sites := mf 3) (R := x.1) (fi := x.2.2.1) (lo := x.2.2.2) (F := x.2.1) (had := sWire (ma 1 4) (ma 2)) (i := i) (ls0 := ls0) (k := n) K hN (by rw [mA_n (by decide), t1]; exact tm) (by rw [q2]; exact ⟨o1, sameX_r q, sameF_r q, o4, o5, wi0, fun _ h => h, rfl⟩) sz.1.2 sz.2.2 (by omega) (by omega) (by
          rw [q2]
          intro z z0 z1
          have := sRunS_iff.mp (a6 z z0 z1)
          exact ⟨this.2.2.1, this.2.2.2.2⟩) (by rw [q2]; exact nf) (by omega) l20 (mF_s _ _ _) (by rw [mA_2]; exact rIs_list _ _) (by omega) (by rw [mA_n (by decide)]; exact x8)
        rw [q2, mA_n (by decide), t1] at y2
        refine ⟨(i + 1, mF mf2 20 ls0.length, ma3), ⟨by dsimp only; omega, ?_, ?_, ?_⟩, by dsimp only; omega, ?_⟩
        · intro p hp
          dsimp only
          rw [mF_n hp, p2 p hp]
        · intro p a1 a2 a3 a4 a5 a6
          dsimp only
          rw [y1 p a1 a2 a3 a4 a5 a6, mA_n a2, p3 p a1 a2 a3 a4 a5 a6]
        · dsimp only
          rw [nxt, y2]
        · dsimp only
          rw [eq_X9_windows_42, m_g18, Option.bind_some, t18, if_neg (fun z => by have := (iI_le ⟨by omega, by omega⟩ ⟨by omega, by omega⟩).mp z; omega), if_pos m_isc, ll, Option.bind_some, y3]
          rfl
  · rw [if_neg q1, if_neg (by simp [q1]), no1]
end M55
