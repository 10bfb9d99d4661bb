/-! ===== the model: cells that hop ===== -/
theorem rGive_give (r : Int → Int) (c x y x' y' : Int) : rGive (rGive r c x y) c x' y' = rGive r c x' y' := by
  funext j
  unfold rGive rU
  by_cases e1 : j = 36 + 7 * c + 6
  · simp [e1]
  · by_cases e2 : j = 36 + 7 * c + 5 <;> simp [e1, e2]
theorem rGive_self (r : Int → Int) (c : Int) : rGive r c (r (36 + 7 * c + 5)) (r (36 + 7 * c + 6)) = r := by
  funext j
  unfold rGive rU
  by_cases e1 : j = 36 + 7 * c + 6
  · simp [e1]
  · by_cases e2 : j = 36 + 7 * c + 5 <;> simp [e1, e2]
theorem sBar_x {r r' : Int → Int} (h : sameX r r') (h0 : 0 ≤ r 0) (h4 : r 0 ≤ 4) (R S : Int) : sBar r' R S = sBar r R S := by
  unfold sBar
  rw [h 0 (by omega)]
  refine aP_congr (fun k hk => ?_)
  unfold sBlk
  rw [h _ (by omega), h _ (by omega), h _ (by omega), h _ (by omega), h _ (by omega)]
theorem sFen_x {r r' : Int → Int} (h : sameX r r') (h0 : 0 ≤ r 1) (h4 : r 1 ≤ 3) (R S : Int) : sFen r' R S = sFen r R S := by
  unfold sFen
  rw [h 1 (by omega)]
  refine aL_congr (fun k hk => ?_)
  unfold sFin
  rw [h _ (by omega), h _ (by omega), h _ (by omega), h _ (by omega)]
/-- what lies at a site but for a cell that moves -/
theorem sCel_give {r : Int → Int} {c x y R S : Int} {fx : Bool} (h0 : 0 ≤ c) (h2 : 0 ≤ r 2 ∧ r 2 ≤ 20) : sCel (rGive r c x y) R S c fx = sCel r R S c fx := by
  unfold sCel
  rw [rGive_n (by omega) (by omega)]
  refine aL_congr (fun k hk => ?_)
  unfold sThere
  by_cases e : (k : Int) = c
  · simp [e]
  · unfold sCov sFix
    rw [rGive_n (by omega) (by omega), rGive_n (by omega) (by omega), rGive_n (by omega) (by omega), rGive_n (by omega) (by omega)]
theorem sLaw_give {rows sites : Int} {r : Int → Int} {c : Nat} {x y R S : Int} {fx : Bool} (ok : rOk r) (hc : c < 20) : sLaw rows sites (rGive r c x y) c R S fx = sLaw rows sites r c R S fx := by
  have s := sameX_give (r := r) (c := c) (R := x) (S := y) (by omega) (by omega)
  unfold sLaw
  rw [rGive_n (by omega) (by omega)]
  congr 1
  have : (fun k : Nat => sOk1 (rGive r c x y) c R fx (S + k)) = (fun k : Nat => sOk1 r c R fx (S + k)) := by
    funext k
    unfold sOk1
    rw [sBar_x s ok.2.1.1 ok.2.1.2, sFen_x s ok.2.2.1.1 ok.2.2.1.2, sCel_give (by omega) ok.2.2.2.1, rGive_n (by omega) (by omega)]
  rw [this]
/-- the best spot so far: row, site, wire -/
def sHpS (tall rows sites : Int) (r : Int → Int) (c : Nat) (R : Int) (st : Int × Int × Int) : Nat → Int × Int × Int
  | 0 => st
  | s + 1 => if sLaw rows sites r c R s false = true ∧ sWire tall (rGive r c R s) < (sHpS tall rows sites r c R st s).2.2 then (R, s, sWire tall (rGive r c R s)) else sHpS tall rows sites r c R st s
def sHpR (tall rows sites : Int) (r : Int → Int) (c : Nat) : Nat → Int × Int × Int
  | 0 => (r (36 + 7 * c + 5), r (36 + 7 * c + 6), sWire tall r)
  | R + 1 => sHpS tall rows sites r c R (sHpR tall rows sites r c R) sites.toNat
def rHop (tall rows sites : Int) (r : Int → Int) (c : Nat) : Int → Int := rGive r c (sHpR tall rows sites r c rows.toNat).1 (sHpR tall rows sites r c rows.toNat).2.1
def stOk (x : Int × Int × Int) : Prop := (-1 ≤ x.1 ∧ x.1 ≤ 600) ∧ (-1 ≤ x.2.1 ∧ x.2.1 ≤ 600) ∧ (0 ≤ x.2.2 ∧ x.2.2 ≤ 77760000)
theorem sHpS_ok {tall rows sites : Int} {r : Int → Int} {c : Nat} {R : Int} {st : Int × Int × Int} (ht : 1 ≤ tall ∧ tall ≤ 8) (v : vOk r) (hc : c < 20) (hR : 0 ≤ R ∧ R ≤ 100) (hs : stOk st) (n : Nat) (hn : n ≤ 100) : stOk (sHpS tall rows sites r c R st n) := by
  induction n with
  | zero => exact hs
  | succ n ih =>
    rw [sHpS]
    split
    · have := sWire_b ht (vOk_give (c := c) (R := R) (S := n) v (by omega) (by omega) (by omega) (by omega))
      exact ⟨by dsimp only; omega, by dsimp only; omega, this⟩
    · exact ih (by omega)
theorem sHpR_ok {tall rows sites : Int} {r : Int → Int} {c : Nat} (ht : 1 ≤ tall ∧ tall ≤ 8) (v : vOk r) (hc : c < 20) (hs : sites ≤ 100) (n : Nat) (hn : n ≤ 100) : stOk (sHpR tall rows sites r c n) := by
  induction n with
  | zero => exact ⟨v.1.1 _, v.1.1 _, sWire_b ht v⟩
  | succ n ih => exact sHpS_ok ht v hc (by omega) (ih (by omega)) _ (by omega)
def rHpN (tall rows sites : Int) (r : Int → Int) : Nat → Int → Int
  | 0 => r
  | c + 1 => if (!sFix (rHpN tall rows sites r c) c && sHas (rHpN tall rows sites r c) c) = true then rHop tall rows sites (rHpN tall rows sites r c) c else rHpN tall rows sites r c
theorem rHop_ok {tall rows sites : Int} {r : Int → Int} {c : Nat} (ht : 1 ≤ tall ∧ tall ≤ 8) (v : vOk r) (hc : c < 20) (hs : sites ≤ 100) (hr : rows ≤ 100) : vOk (rHop tall rows sites r c) ∧ sameX r (rHop tall rows sites r c) := by
  have := sHpR_ok (rows := rows) (sites := sites) ht v hc hs rows.toNat (by omega)
  exact ⟨vOk_give v (by omega) (by omega) this.1 this.2.1, sameX_give (by omega) (by omega)⟩
theorem rHpN_ok {tall rows sites : Int} {r : Int → Int} (ht : 1 ≤ tall ∧ tall ≤ 8) (v : vOk r) (hs : sites ≤ 100) (hr : rows ≤ 100) (n : Nat) (hn : n ≤ 20) : vOk (rHpN tall rows sites r n) ∧ sameX r (rHpN tall rows sites r n) := by
  induction n with
  | zero => exact ⟨v, sameX_r r⟩
  | succ n ih =>
    obtain ⟨i1, i2⟩ := ih (by omega)
    rw [rHpN]
    split
    · have := rHop_ok (rows := rows) (c := n) ht i1 (by omega) hs hr
      exact ⟨this.1, sameX_t i2 this.2⟩
    · exact ⟨i1, i2⟩
section M42
variable {N : Nat} {h : ka_H} {a : Nat} {mf : Nat → Int} {ma : Nat → Int → Int}
theorem c_hop46 {c R : Nat} {r : Int → Int} (K34 : ka_K ka_H) (st : Int × Int × Int) (x y : Int) (hN : 5000 ≤ N) (v : vOk r) (sz : mSz mf) (tm : tmOk (ma 1)) (hc : (c : Int) < r 2) (hR : R < 8) (hs : stOk st) (hx : -1 ≤ x ∧ x ≤ 600) (hy : -1 ≤ y ∧ y ≤ 600) :
    ∃ x' y', (-1 ≤ x' ∧ x' ≤ 600) ∧ (-1 ≤ y' ∧ y' ≤ 600) ∧ ki_fix (cm_X9_hop_46 N K34) N [some (.ref a), some (.int (iI c)), some (.int (iI st.1)), some (.int (iI st.2.1)), some (.int (iI st.2.2)), some (.int (iI R)), some (.int (iI 0))] [] (mH h a mf (mA ma 2 (rGive r c x y))) = K34 [some (.ref a), some (.int (iI c)), some (.int (iI (sHpS (ma 1 4) (mf 2) (mf 3) r c R st (mf 3).toNat).1)), some (.int (iI (sHpS (ma 1 4) (mf 2) (mf 3) r c R st (mf 3).toNat).2.1)), some (.int (iI (sHpS (ma 1 4) (mf 2) (mf 3) r c R st (mf 3).toNat).2.2)), some (.int (iI ((R : Int) + 1)))] [] (mH h a mf (mA ma 2 (rGive r c x' y'))) := by
  have g2 := v.1.2.2.2.1
  have t4 := tm.2.2.2.2.1
  have s2 := sz.2
  refine fix_ms (B := cm_X9_hop_46 N K34) (fun z : Nat × Int × Int => [some (.ref a), some (.int (iI c)), some (.int (iI (sHpS (ma 1 4) (mf 2) (mf 3) r c R st z.1).1)), some (.int (iI (sHpS (ma 1 4) (mf 2) (mf 3) r c R st z.1).2.1)), some (.int (iI (sHpS (ma 1 4) (mf 2) (mf 3) r c R st z.1).2.2)), some (.int (iI R)), some (.int (iI z.1))]) (fun z => mH h a mf (mA ma 2 (rGive r c z.2.1 z.2.2))) (fun z => z.1 ≤ (mf 3).toNat ∧ (-1 ≤ z.2.1 ∧ z.2.1 ≤ 600) ∧ (-1 ≤ z.2.2 ∧ z.2.2 ≤ 600)) (fun z => (mf 3).toNat - z.1) (fun z => ∃ x' y', (-1 ≤ x' ∧ x' ≤ 600) ∧ (-1 ≤ y' ∧ y' ≤ 600) ∧ z = K34 [some (.ref a), some (.int (iI c)), some (.int (iI (sHpS (ma 1 4) (mf 2) (mf 3) r c R st (mf 3).toNat).1)), some (.int (iI (sHpS (ma 1 4) (mf 2) (mf 3) r c R st (mf 3).toNat).2.1)), some (.int (iI (sHpS (ma 1 4) (mf 2) (mf 3) r c R st (mf 3).toNat).2.2)), some (.int (iI ((R : Int) + 1)))] [] (mH h a mf (mA ma 2 (rGive r c x' y')))) ?_ N (0, x, y) ⟨by dsimp only; omega, hx, hy⟩ (by dsimp only; omega)
  rintro K ⟨s, x, y⟩ ⟨p1, p2, p3⟩
  dsimp only at p1 p2 p3 ⊢
  by_cases e : s = (mf 3).toNat
  · left
    refine ⟨x, y, p2, p3, ?_⟩
    rw [eq_X9_hop_46, m_g3, Option.bind_some, if_pos ((iI_le ⟨by omega, by omega⟩ ⟨by omega, by omega⟩).mpr (by omega)), iI_add, e]
  · right
    have vq := vOk_give (c := c) v (by omega) (by omega) p2 p3
    have cl := c_lawOk (N := N) (h := h) (a := a) (mf := mf) (ma := mA ma 2 (rGive r c x y)) (c := c) (R := R) (S := s) (fx := false) hN (by rw [mA_2]; exact vq.1) sz (by rw [mA_2, rGive_n (by omega) (by omega)]; exact hc) (by omega) (by omega)
    rw [mA_2, sLaw_give v.1 (by omega), show (if false = true then iI 1 else iI 0) = iI 0 from rfl] at cl
    have vn := vOk_give (c := c) (R := R) (S := s) v (by omega) (by omega) (by omega) (by omega)
    have cw := c_wireV (N := N) (h := h) (a := a) (mf := mf) (ma := ma) hN vn
    have bw := sWire_b t4 vn
    have bs := (sHpS_ok (rows := mf 2) (sites := mf 3) (c := c) (R := R) t4 v (by omega) (by omega) hs s (by omega)).2.2
    have ei : ((s + 1 : Nat) : Int) = (s : Int) + 1 := by omega
    by_cases q1 : sLaw (mf 2) (mf 3) r c R s false = true
    · refine ⟨(s + 1, R, s), ⟨by dsimp only; omega, by dsimp only; omega, by dsimp only; omega⟩, by dsimp only; omega, ?_⟩
      dsimp only
      rw [eq_X9_hop_46, m_g3, Option.bind_some, if_neg (fun z => by have := (iI_le ⟨by omega, by omega⟩ ⟨by omega, by omega⟩).mp z; omega), if_pos m_isc, cl, Option.bind_some]
      dsimp only
      rw [if_neg (by rw [q1]; exact tb1), if_pos m_isc, c_give (by omega) (by omega), Option.bind_some, mA_2, mA_mA, rGive_give, if_pos m_isc, cw, Option.bind_some, sHpS, ei]
      dsimp only
      by_cases q2 : sWire (ma 1 4) (rGive r c R s) < (sHpS (ma 1 4) (mf 2) (mf 3) r c R st s).2.2
      · rw [if_neg (fun z => by have := (iI_le ⟨by omega, by omega⟩ ⟨by omega, by omega⟩).mp z; omega), if_pos (And.intro q1 q2), eq_X9_hop_100, iI_add]
      · rw [if_pos ((iI_le ⟨by omega, by omega⟩ ⟨by omega, by omega⟩).mpr (by omega)), if_neg (fun z => q2 z.2), eq_X9_hop_100, iI_add]
    · refine ⟨(s + 1, x, y), ⟨by dsimp only; omega, p2, p3⟩, by dsimp only; omega, ?_⟩
      dsimp only
      rw [eq_X9_hop_46, m_g3, Option.bind_some, if_neg (fun z => by have := (iI_le ⟨by omega, by omega⟩ ⟨by omega, by omega⟩).mp z; omega), if_pos m_isc, cl, Option.bind_some]
      dsimp only
      rw [if_pos (by simp [q1]), eq_X9_hop_100, iI_add, sHpS, if_neg (fun z => q1 z.1), ei]
theorem c_hop {c : Nat} {r : Int → Int} (hN : 5000 ≤ N) (v : vOk r) (sz : mSz mf) (tm : tmOk (ma 1)) (hc : (c : Int) < r 2) : fm_X9_hop N [.ref a, .int (iI c)] (mH h a mf (mA ma 2 r)) = some (mH h a mf (mA ma 2 (rHop (ma 1 4) (mf 2) (mf 3) r c))) := by
  have g2 := v.1.2.2.2.1
  have t4 := tm.2.2.2.2.1
  have s1 := sz.1
  have s2 := sz.2
  rw [en_X9_hop, eq_X9_hop_0, m_r6, Option.bind_some, c_cellAt, Option.bind_some]
  dsimp only
  rw [iI_add, m_l6 (by omega) (by omega), Option.bind_some, m_r6, Option.bind_some, c_cellAt, Option.bind_some]
  dsimp only
  rw [iI_add, m_l6 (by omega) (by omega), Option.bind_some, if_pos m_isc, c_wireV hN v, Option.bind_some, mA_2]
  dsimp only
  have key := fix_ms (B := cm_X9_hop_34 N) (fun z : Nat × Int × Int => [some (.ref a), some (.int (iI c)), some (.int (iI (sHpR (ma 1 4) (mf 2) (mf 3) r c z.1).1)), some (.int (iI (sHpR (ma 1 4) (mf 2) (mf 3) r c z.1).2.1)), some (.int (iI (sHpR (ma 1 4) (mf 2) (mf 3) r c z.1).2.2)), some (.int (iI z.1))]) (fun z => mH h a mf (mA ma 2 (rGive r c z.2.1 z.2.2))) (fun z => z.1 ≤ (mf 2).toNat ∧ (-1 ≤ z.2.1 ∧ z.2.1 ≤ 600) ∧ (-1 ≤ z.2.2 ∧ z.2.2 ≤ 600)) (fun z => (mf 2).toNat - z.1) (fun z => z = some (mH h a mf (mA ma 2 (rHop (ma 1 4) (mf 2) (mf 3) r c)))) ?_ N (0, r (36 + 7 * c + 5), r (36 + 7 * c + 6)) ⟨by dsimp only; omega, v.1.1 _, v.1.1 _⟩ (by dsimp only; omega)
  · simp only [rGive_self, Int.natCast_zero, sHpR] at key
    exact key
  · rintro K ⟨R, x, y⟩ ⟨p1, p2, p3⟩
    dsimp only at p1 p2 p3 ⊢
    by_cases e : R = (mf 2).toNat
    · left
      rw [eq_X9_hop_34, m_g2, Option.bind_some, if_pos ((iI_le ⟨by omega, by omega⟩ ⟨by omega, by omega⟩).mpr (by omega)), if_pos m_isc, c_give (by omega) (by omega), Option.bind_some, mA_2, mA_mA, rGive_give, e]
      rfl
    · right
      have so := sHpR_ok (rows := mf 2) (sites := mf 3) t4 v (show c < 20 by omega) (by omega) R (by omega)
      obtain ⟨x', y', y1, y2, y3⟩ := c_hop46 (N := N) (h := h) (a := a) (mf := mf) (ma := ma) (c := c) (R := R) K (sHpR (ma 1 4) (mf 2) (mf 3) r c R) x y hN v sz tm hc (by omega) so p2 p3
      refine ⟨(R + 1, x', y'), ⟨by dsimp only; omega, y1, y2⟩, by dsimp only; omega, ?_⟩
      dsimp only
      rw [eq_X9_hop_34, m_g2, Option.bind_some, if_neg (fun z => by have := (iI_le ⟨by omega, by omega⟩ ⟨by omega, by omega⟩).mp z; omega), y3]
      rfl
theorem c_hops (hN : 5000 ≤ N) (v : vOk (ma 2)) (sz : mSz mf) (tm : tmOk (ma 1)) (h9 : 0 ≤ mf 9 ∧ mf 9 ≤ 12) : fm_X9_hops N [.ref a] (mH h a mf ma) = some (iI (sWire (ma 1 4) (ma 2) - sWire (ma 1 4) (rHpN (ma 1 4) (mf 2) (mf 3) (ma 2) (ma 2 2).toNat)), mYes h a mf ma 15 (rHpN (ma 1 4) (mf 2) (mf 3) (ma 2) (ma 2 2).toNat)) := by
  have g2 := v.1.2.2.2.1
  have t4 := tm.2.2.2.2.1
  have s1 := sz.1
  have s2 := sz.2
  have e1 : mRem mf ma 15 1 = ma 1 := mRem_n (by decide) (by decide)
  have es : mA (mRem mf ma 15) 2 (ma 2) = mRem mf ma 15 := by
    have : ma 2 = mRem mf ma 15 2 := (mRem_2 mf ma 15).symm
    rw [this, mA_self]
  have w0 := c_wireV (N := N) (h := h) (a := a) (mf := mF (mF mf 0 0) 9 (if mf 9 = 12 then 12 else mf 9 + 1)) (ma := mRem mf ma 15) hN v
  rw [es, e1] at w0
  rw [en_X9_hops, eq_X9_hops_0, m_p0, Option.bind_some, if_pos m_isc, c_rem0 hN h9, Option.bind_some, if_pos m_isc, w0, Option.bind_some]
  dsimp only
  unfold mYes
  generalize hm1 : mF (mF mf 0 0) 9 (if mf 9 = 12 then 12 else mf 9 + 1) = mf1
  have sz1 : mSz mf1 := by rw [← hm1]; exact sz
  have f2 : mf1 2 = mf 2 := by rw [← hm1]; rfl
  have f3 : mf1 3 = mf 3 := by rw [← hm1]; rfl
  have key := fix_up (B := cm_X9_hops_18 N) (R := some (iI (sWire (ma 1 4) (ma 2) - sWire (ma 1 4) (rHpN (ma 1 4) (mf 2) (mf 3) (ma 2) (ma 2 2).toNat)), mH h a (mF mf1 1 0) (mA (mRem mf ma 15) 2 (rHpN (ma 1 4) (mf 2) (mf 3) (ma 2) (ma 2 2).toNat)))) (fun i => [some (.ref a), some (.int (iI (sWire (ma 1 4) (ma 2)))), some (.int (iI i))]) (fun i => mH h a mf1 (mA (mRem mf ma 15) 2 (rHpN (ma 1 4) (mf 2) (mf 3) (ma 2) i))) (ma 2 2).toNat ?_ ?_ N 0 (by omega) (by omega)
  · simp only [rHpN, Int.natCast_zero, es] at key
    exact key
  · intro K
    obtain ⟨o1, o2⟩ := rHpN_ok (rows := mf 2) (sites := mf 3) t4 v (by omega) (by omega) (ma 2 2).toNat (by omega)
    have w1 := c_wireV (N := N) (h := h) (a := a) (mf := mf1) (ma := mRem mf ma 15) hN o1
    rw [e1] at w1
    rw [eq_X9_hops_18, m_r6, Option.bind_some, m_l6 (by omega) (by omega), Option.bind_some, mA_2, o2 2 (by omega), if_pos ((iI_le ⟨by omega, by omega⟩ ⟨by omega, by omega⟩).mpr (by omega)), if_pos m_isc, w1, Option.bind_some]
    dsimp only
    rw [if_pos m_isc, c_tell, Option.bind_some, iI_sub]
  · intro K i hi
    obtain ⟨o1, o2⟩ := rHpN_ok (rows := mf 2) (sites := mf 3) t4 v (by omega) (by omega) i (by omega)
    have e2 := o2 2 (by omega)
    have cm := c_isMoving (N := N) (h := h) (a := a) (mf := mf1) (ma := mA (mRem mf ma 15) 2 (rHpN (ma 1 4) (mf 2) (mf 3) (ma 2) i)) (c := i) (by omega) (by rw [mA_2]; exact o1.1.1)
    rw [mA_2] at cm
    have ch := c_hop (N := N) (h := h) (a := a) (mf := mf1) (ma := mRem mf ma 15) (c := i) hN o1 sz1 (by rw [e1]; exact tm) (by omega)
    rw [e1, f2, f3] at ch
    have ei : ((i + 1 : Nat) : Int) = (i : Int) + 1 := by omega
    rw [eq_X9_hops_18, m_r6, Option.bind_some, m_l6 (by omega) (by omega), Option.bind_some, mA_2, e2, if_neg (fun z => by have := (iI_le ⟨by omega, by omega⟩ ⟨by omega, by omega⟩).mp z; omega), if_pos m_isc, cm, Option.bind_some, rHpN, ei]
    dsimp only
    by_cases q : (!sFix (rHpN (ma 1 4) (mf 2) (mf 3) (ma 2) i) i && sHas (rHpN (ma 1 4) (mf 2) (mf 3) (ma 2) i) i) = true
    · rw [if_neg (by rw [q]; exact tb1), if_pos q, if_pos m_isc, ch, Option.bind_some, eq_X9_hops_41, iI_add]
    · rw [if_pos (by rw [iI_zb]; simpa using q), if_neg q, eq_X9_hops_41, iI_add]
end M42
