/-! ===== the component: places, spans, smooth spans ===== -/
def pl (B : Nat) (sp : Bool) : Nat := if sp = true then B + 7 else B + 6
theorem sPin_nn {rows sites : Int} {r : Int → Int} {sp up : Bool} {n k : Int} (i : rI rows sites r) (h0 : 0 ≤ n) (h1 : n < r 3) (k0 : 0 ≤ k) (k1 : k < r (176 + 14 * n + 1)) : 0 ≤ sPin r sp up n k := by
  have nk := (i.1.2.1 n h0 h1).2 k k0 k1
  have pn := i.2.2.2.2.2.1 n h0 h1 k k0 k1
  have xy := fun z => i.2.2.2.2.1 (sWho r n k) (nk z).1 (nk z).2
  unfold sPin sPX sPY
  by_cases q : sWho r n k < 200
  · have x := xy q
    have e : ((sWho r n k).toNat : Int) = sWho r n k := by have := nk q; omega
    rw [if_pos q, if_pos q]
    by_cases q2 : (sp && sHas r (sWho r n k).toNat) = true
    · rw [if_pos q2, if_pos q2]
      rw [Bool.and_eq_true] at q2
      have q3 := of_decide_eq_true q2.2
      rw [e] at q3
      have := x.2.2 q3
      split <;> omega
    · rw [if_neg q2, if_neg q2]
      split <;> omega
  · rw [if_neg q, if_neg q]
    split <;> omega
theorem aMx_z {f : Nat → Int} {z z' : Int} {n : Nat} (hn : 0 < n) (h : ∀ k, k < n → z ≤ f k ∧ z' ≤ f k) : aMx f z n = aMx f z' n := by
  induction n with
  | zero => omega
  | succ n ih =>
    by_cases e : n = 0
    · subst e
      have := h 0 (by omega)
      simp only [aMx]
      by_cases a : f 0 ≤ z <;> by_cases b : f 0 ≤ z' <;> simp only [a, b, if_true, if_false] <;> omega
    · rw [aMx, aMx, ih (by omega) (fun k hk => h k (by omega))]
theorem aMn_z {f : Nat → Int} {z z' : Int} {n : Nat} (hn : 0 < n) (h : ∀ k, k < n → f k ≤ z ∧ f k ≤ z') : aMn f z n = aMn f z' n := by
  induction n with
  | zero => omega
  | succ n ih =>
    by_cases e : n = 0
    · subst e
      have := h 0 (by omega)
      simp only [aMn]
      by_cases a : z ≤ f 0 <;> by_cases b : z' ≤ f 0 <;> simp only [a, b, if_true, if_false] <;> omega
    · rw [aMn, aMn, ih (by omega) (fun k hk => h k (by omega))]
section C7
variable {N : Nat} {h : ka_H} {B : Nat} {ca : Nat → Int → Int} {cb : Value} {r : Int → Int} {s : Nat}
theorem pl_isc (sp : Bool) : ka_isc (cH h B ca cb) [1, 2] (pl B sp) = true := by
  cases sp
  · exact aw_isc2
  · exact as_isc2
theorem pl_r0 (sp : Bool) : ka_gr (cH h B ca cb) [1, 2] (pl B sp) 0 = some B := by
  cases sp
  · exact aw_r0
  · exact as_r0
theorem as_not1 : ka_isc (cH h B ca cb) [1] (B + 7) = false := by
  unfold ka_isc
  rw [cH_i (i := 7) (by omega)]
  rfl
/-- a live net's cell of the heap -/
theorem ne_l (I : cI r ca s) {n : Nat} (hn : (n : Int) < r 3) : oNet (cH h B ca cb) (cSl B s + 25 + 3 * n) (r (176 + 14 * (n : Int))) (r (176 + 14 * (n : Int) + 1)) (fun m => ca (40 + s) (176 + 14 * (n : Int) + 2 + 2 * (m : Int))) (fun m => ca (40 + s) (176 + 14 * (n : Int) + 2 + 2 * (m : Int) + 1)) := by
  have g3 := I.2.2.2.2.2.2.2.1.1.2.2.2.2.1
  have np := (I.2.2.2.2.2.2.2.1.2.1 n (by omega) hn).1
  have lv := I.2.2.1
  have o := ne_o (h := h) (B := B) (ca := ca) (cb := cb) (s := s) (n := n) I.1 (by omega)
  have l0 := lv.2.2.2.2 n 0 (by omega) hn (by omega) (by omega)
  have l1 := lv.2.2.2.2 n 1 (by omega) hn (by omega) (by omega)
  rw [Int.add_zero] at l0
  rw [l0, l1] at o
  exact o
theorem ne_who (I : cI r ca s) {n k : Nat} (hn : (n : Int) < r 3) (hk : (k : Int) < r (176 + 14 * (n : Int) + 1)) : ca (40 + s) (176 + 14 * (n : Int) + 2 + 2 * (k : Int)) = sWho r n k ∧ ca (40 + s) (176 + 14 * (n : Int) + 2 + 2 * (k : Int) + 1) = sWhr r n k := by
  have lv := I.2.2.1
  have a := lv.2.2.2.2 n (2 + 2 * k) (by omega) hn (by omega) (by omega)
  have b := lv.2.2.2.2 n (2 + 2 * k + 1) (by omega) hn (by omega) (by omega)
  unfold sWho sWhr
  rw [show 176 + 14 * (n : Int) + (2 + 2 * (k : Int)) = 176 + 14 * (n : Int) + 2 + 2 * (k : Int) by omega] at a
  rw [show 176 + 14 * (n : Int) + (2 + 2 * (k : Int) + 1) = 176 + 14 * (n : Int) + 2 + 2 * (k : Int) + 1 by omega] at b
  exact ⟨a, b⟩
theorem d_wX {c : Nat} (I : cI r ca s) (hc : (c : Int) < r 2) : fm_X3_x N [.ref (B + 6), .ref (cSl B s + 5 + c)] (cH h B ca cb) = some (iI (r (36 + 7 * (c : Int) + 3)), cH h B ca cb) := by
  have g2 := I.2.2.2.2.2.2.2.1.1.2.2.2.1
  rw [en_X3_x, eq_X3_x_0, ce_g3 I.1 (by omega), Option.bind_some, lc I.2.2.1 hc 3 (by omega) (by omega)]
theorem d_sX {c : Nat} (I : cI r ca s) (hc : (c : Int) < r 2) : fm_X4_x N [.ref (B + 7), .ref (cSl B s + 5 + c)] (cH h B ca cb) = some (iI (if sHas r c = true then 16 * r (36 + 7 * (c : Int) + 6) else r (36 + 7 * (c : Int) + 3)), cH h B ca cb) := by
  have g2 := I.2.2.2.2.2.2.2.1.1.2.2.2.1
  rw [en_X4_x, eq_X4_x_0, if_pos (ce_isc I.1 (by omega)), d_isOn I.1 I.2.2.1 I.2.2.2.2.2.2.2.1.1 hc, Option.bind_some]
  dsimp only
  by_cases q : sHas r c = true
  · rw [if_neg (c := (if sHas r c = true then iI 1 else iI 0) = iI 0) (by rw [q]; exact tb1), if_pos q, ce_g6 I.1 (by omega), Option.bind_some, lc I.2.2.1 hc 6 (by omega) (by omega), eq_X4_x_21, iI_mul]
  · have q' : sHas r c = false := by simpa using q
    rw [q', if_pos (by rfl), if_neg (c := false = true) (by decide), ce_g3 I.1 (by omega), Option.bind_some, lc I.2.2.1 hc 3 (by omega) (by omega), eq_X4_x_21]
theorem d_wY {c : Nat} (I : cI r ca s) (hc : (c : Int) < r 2) : fm_X3_y N [.ref (B + 6), .ref (cSl B s + 5 + c)] (cH h B ca cb) = some (iI (r (36 + 7 * (c : Int) + 4)), cH h B ca cb) := by
  have g2 := I.2.2.2.2.2.2.2.1.1.2.2.2.1
  rw [en_X3_y, eq_X3_y_0, ce_g4 I.1 (by omega), Option.bind_some, lc I.2.2.1 hc 4 (by omega) (by omega)]
theorem d_sY {c : Nat} (I : cI r ca s) (hc : (c : Int) < r 2) : fm_X4_y N [.ref (B + 7), .ref (cSl B s + 5 + c)] (cH h B ca cb) = some (iI (if sHas r c = true then 16 * r (36 + 7 * (c : Int) + 5) else r (36 + 7 * (c : Int) + 4)), cH h B ca cb) := by
  have g2 := I.2.2.2.2.2.2.2.1.1.2.2.2.1
  rw [en_X4_y, eq_X4_y_0, if_pos (ce_isc I.1 (by omega)), d_isOn I.1 I.2.2.1 I.2.2.2.2.2.2.2.1.1 hc, Option.bind_some]
  dsimp only
  by_cases q : sHas r c = true
  · rw [if_neg (c := (if sHas r c = true then iI 1 else iI 0) = iI 0) (by rw [q]; exact tb1), if_pos q, ce_g5 I.1 (by omega), Option.bind_some, lc I.2.2.1 hc 5 (by omega) (by omega), eq_X4_y_21, iI_mul]
  · have q' : sHas r c = false := by simpa using q
    rw [q', if_pos (by rfl), if_neg (c := false = true) (by decide), ce_g4 I.1 (by omega), Option.bind_some, lc I.2.2.1 hc 4 (by omega) (by omega), eq_X4_y_21]
theorem d_pinX {sp : Bool} {n k : Nat} (I : cI r ca s) (hn : (n : Int) < r 3) (hk : (k : Int) < r (176 + 14 * (n : Int) + 1)) : fm_X2_pinX N [.ref (pl B sp), .ref (cSl B s + 25 + 3 * n), .int (iI (k : Int))] (cH h B ca cb) = some (iI (sPin r sp false n k), cH h B ca cb) := by
  have v := I.2.2.2.2.2.2.2.1
  have np := v.2.1 n (by omega) hn
  have o := ne_l (h := h) (B := B) (cb := cb) I hn
  have w := ne_who I hn hk
  have bw := v.1.1 (176 + 14 * (n : Int) + 2 + 2 * (k : Int))
  have pad := d_isPad (N := N) (k := k) o (by omega) (by rw [w.1]; unfold sWho; omega)
  have g2 := v.1.2.2.2.1
  obtain ⟨o1, o2, o3, a, b, o4, o5, o6, o7⟩ := o
  have o6' := o6 k (by omega)
  have o7' := o7 k (by omega)
  dsimp only at o6' o7'
  rw [w.1] at o6'
  rw [w.2] at o7'
  rw [en_X2_pinX, eq_X2_pinX_0, o5, Option.bind_some, o7', Option.bind_some, if_pos o1, pad, Option.bind_some]
  dsimp only
  rw [w.1, iI_mul, iI_add]
  unfold sPin sPX
  rw [if_neg (c := false = true) (by decide)]
  by_cases q : sWho r n k < 200
  · obtain ⟨c, ec⟩ : ∃ c : Nat, sWho r n k = c := ⟨(sWho r n k).toNat, by have := np.2 k (by omega) hk q; omega⟩
    have hc := np.2 k (by omega) hk q
    rw [if_pos (by rw [decide_eq_false (by omega)]; rfl), if_pos q, pl_r0, Option.bind_some, ob_c I, Option.bind_some, ch_r0 I.1, Option.bind_some, o4, Option.bind_some, o6', Option.bind_some, ec, ch_cell I.1 (by omega), Option.bind_some]
    cases sp
    · rw [show pl B false = B + 6 from rfl, if_pos aw_isc, if_pos aw_isc, d_wX I (by omega), Option.bind_some, eq_X2_pinX_45, iI_add, Bool.false_and, if_neg (c := false = true) (by decide)]
      congr 3
      omega
    · rw [show pl B true = B + 7 from rfl, if_neg (by rw [as_not1]; decide), if_pos as_isc, d_sX I (by omega), Option.bind_some, eq_X2_pinX_45, iI_add, Bool.true_and, Int.toNat_natCast]
      congr 3
      omega
  · rw [if_neg (by rw [decide_eq_true (by omega)]; exact tb1), if_neg q, eq_X2_pinX_45, iI_add]
    congr 3
    omega
theorem d_pinY {sp : Bool} {n k : Nat} (I : cI r ca s) (hn : (n : Int) < r 3) (hk : (k : Int) < r (176 + 14 * (n : Int) + 1)) : fm_X2_pinY N [.ref (pl B sp), .ref (cSl B s + 25 + 3 * n), .int (iI (k : Int))] (cH h B ca cb) = some (iI (sPin r sp true n k), cH h B ca cb) := by
  have v := I.2.2.2.2.2.2.2.1
  have np := v.2.1 n (by omega) hn
  have o := ne_l (h := h) (B := B) (cb := cb) I hn
  have w := ne_who I hn hk
  have bw := v.1.1 (176 + 14 * (n : Int) + 2 + 2 * (k : Int))
  have pad := d_isPad (N := N) (k := k) o (by omega) (by rw [w.1]; unfold sWho; omega)
  have g2 := v.1.2.2.2.1
  obtain ⟨o1, o2, o3, a, b, o4, o5, o6, o7⟩ := o
  have o6' := o6 k (by omega)
  have o7' := o7 k (by omega)
  dsimp only at o6' o7'
  rw [w.1] at o6'
  rw [w.2] at o7'
  rw [en_X2_pinY, eq_X2_pinY_0, if_pos o1, pad, Option.bind_some]
  dsimp only
  rw [w.1]
  unfold sPin sPY
  rw [if_pos (c := true = true) rfl]
  by_cases q : sWho r n k < 200
  · obtain ⟨c, ec⟩ : ∃ c : Nat, sWho r n k = c := ⟨(sWho r n k).toNat, by have := np.2 k (by omega) hk q; omega⟩
    have hc := np.2 k (by omega) hk q
    rw [if_pos (by rw [decide_eq_false (by omega)]; rfl), if_pos q, pl_r0, Option.bind_some, ob_c I, Option.bind_some, ch_r0 I.1, Option.bind_some, o4, Option.bind_some, o6', Option.bind_some, ec, ch_cell I.1 (by omega), Option.bind_some]
    cases sp
    · rw [show pl B false = B + 6 from rfl, if_pos aw_isc, if_pos aw_isc, d_wY I (by omega), Option.bind_some, eq_X2_pinY_47, iI_add, Bool.false_and, if_neg (c := false = true) (by decide)]
      congr 3
      omega
    · rw [show pl B true = B + 7 from rfl, if_neg (by rw [as_not1]; decide), if_pos as_isc, d_sY I (by omega), Option.bind_some, eq_X2_pinY_47, iI_add, Bool.true_and, Int.toNat_natCast]
      congr 3
      omega
  · rw [if_neg (by rw [decide_eq_true (by omega)]; exact tb1), if_neg q, o4, Option.bind_some, o6', Option.bind_some, iI_sub, iI_mul, eq_X2_pinY_47, iI_add]
    congr 3
    omega
theorem d_leastX {sp : Bool} {n : Nat} (hN : 5000 ≤ N) (I : cI r ca s) (hn : (n : Int) < r 3) : fm_X2_leastX N [.ref (pl B sp), .ref (cSl B s + 25 + 3 * n)] (cH h B ca cb) = some (iI (sLe r sp false n), cH h B ca cb) := by
  have i := I.2.2.2.2.2.2.2
  have v := i.1
  have np := (v.2.1 n (by omega) hn).1
  have o := ne_l (h := h) (B := B) (cb := cb) I hn
  rw [en_X2_leastX, eq_X2_leastX_0]
  have key := fix_up (B := cm_X2_leastX_5 N) (R := some (iI (aMn (fun k : Nat => sPin r sp false n k) 1000000000 (r (176 + 14 * (n : Int) + 1)).toNat), cH h B ca cb)) (fun i => [some (.ref (pl B sp)), some (.ref (cSl B s + 25 + 3 * n)), some (.int (iI (aMn (fun k : Nat => sPin r sp false n k) 1000000000 i))), some (.int (iI i))]) (fun _ => cH h B ca cb) (r (176 + 14 * (n : Int) + 1)).toNat ?_ ?_ N 0 (by omega) (by omega)
  · refine Eq.trans key ?_
    unfold sLe
    rw [aMn_z (z := 1000000000) (z' := 100000000) (by omega) (fun k hk => by have a := sPin_b v.1.1 sp false n k; have b := sPin_nn (sp := sp) (up := false) i (n := n) (k := k) (by omega) hn (by omega) (by omega); omega)]
  · intro K
    rw [eq_X2_leastX_5, o.2.2.1, Option.bind_some, if_pos ((iI_le ⟨by omega, by omega⟩ ⟨by omega, by omega⟩).mpr (by omega))]
  · intro K j hj
    have b := sPin_b v.1.1 sp false n j
    have c := aMn_b (f := fun k : Nat => sPin r sp false n k) (z := 1000000000) (lo := -30000) (hi := 1000000000) (n := j) (by omega) (fun k _ => by have := sPin_b v.1.1 sp false n k; omega)
    rw [eq_X2_leastX_5, o.2.2.1, Option.bind_some, if_neg (fun z => by have := (iI_le ⟨by omega, by omega⟩ ⟨by omega, by omega⟩).mp z; omega), if_pos (pl_isc sp), d_pinX I hn (by omega), Option.bind_some]
    dsimp only
    rw [d_min (by omega) (by omega), Option.bind_some, iI_add]
    dsimp only
    have e : (if sPin r sp false n j < aMn (fun k : Nat => sPin r sp false n k) 1000000000 j then sPin r sp false n j else aMn (fun k : Nat => sPin r sp false n k) 1000000000 j) = aMn (fun k : Nat => sPin r sp false n k) 1000000000 (j + 1) := by
      rw [aMn]
      split <;> split <;> omega
    rw [e]
    rfl
theorem d_mostX2 {sp : Bool} {n : Nat} (hN : 5000 ≤ N) (I : cI r ca s) (hn : (n : Int) < r 3) : fm_X2_mostX N [.ref (pl B sp), .ref (cSl B s + 25 + 3 * n)] (cH h B ca cb) = some (iI (sGr r sp false n), cH h B ca cb) := by
  have i := I.2.2.2.2.2.2.2
  have v := i.1
  have np := (v.2.1 n (by omega) hn).1
  have o := ne_l (h := h) (B := B) (cb := cb) I hn
  rw [en_X2_mostX, eq_X2_mostX_0]
  have key := fix_up (B := cm_X2_mostX_4 N) (R := some (iI (aMx (fun k : Nat => sPin r sp false n k) 0 (r (176 + 14 * (n : Int) + 1)).toNat), cH h B ca cb)) (fun i => [some (.ref (pl B sp)), some (.ref (cSl B s + 25 + 3 * n)), some (.int (iI (aMx (fun k : Nat => sPin r sp false n k) 0 i))), some (.int (iI i))]) (fun _ => cH h B ca cb) (r (176 + 14 * (n : Int) + 1)).toNat ?_ ?_ N 0 (by omega) (by omega)
  · refine Eq.trans key ?_
    unfold sGr
    rw [aMx_z (z := 0) (z' := -100000000) (by omega) (fun k hk => by have a := sPin_b v.1.1 sp false n k; have b := sPin_nn (sp := sp) (up := false) i (n := n) (k := k) (by omega) hn (by omega) (by omega); omega)]
  · intro K
    rw [eq_X2_mostX_4, o.2.2.1, Option.bind_some, if_pos ((iI_le ⟨by omega, by omega⟩ ⟨by omega, by omega⟩).mpr (by omega))]
  · intro K j hj
    have b := sPin_b v.1.1 sp false n j
    have c := aMx_b (f := fun k : Nat => sPin r sp false n k) (z := 0) (lo := -30000) (hi := 1000000000) (n := j) (by omega) (fun k _ => by have := sPin_b v.1.1 sp false n k; omega)
    rw [eq_X2_mostX_4, o.2.2.1, Option.bind_some, if_neg (fun z => by have := (iI_le ⟨by omega, by omega⟩ ⟨by omega, by omega⟩).mp z; omega), if_pos (pl_isc sp), d_pinX I hn (by omega), Option.bind_some]
    dsimp only
    rw [d_max (by omega) (by omega), Option.bind_some, iI_add]
    dsimp only
    have e : (if aMx (fun k : Nat => sPin r sp false n k) 0 j < sPin r sp false n j then sPin r sp false n j else aMx (fun k : Nat => sPin r sp false n k) 0 j) = aMx (fun k : Nat => sPin r sp false n k) 0 (j + 1) := by
      rw [aMx]
      split <;> split <;> omega
    rw [e]
    rfl
theorem d_leastY {sp : Bool} {n : Nat} (hN : 5000 ≤ N) (I : cI r ca s) (hn : (n : Int) < r 3) : fm_X2_leastY N [.ref (pl B sp), .ref (cSl B s + 25 + 3 * n)] (cH h B ca cb) = some (iI (sLe r sp true n), cH h B ca cb) := by
  have i := I.2.2.2.2.2.2.2
  have v := i.1
  have np := (v.2.1 n (by omega) hn).1
  have o := ne_l (h := h) (B := B) (cb := cb) I hn
  rw [en_X2_leastY, eq_X2_leastY_0]
  have key := fix_up (B := cm_X2_leastY_5 N) (R := some (iI (aMn (fun k : Nat => sPin r sp true n k) 1000000000 (r (176 + 14 * (n : Int) + 1)).toNat), cH h B ca cb)) (fun i => [some (.ref (pl B sp)), some (.ref (cSl B s + 25 + 3 * n)), some (.int (iI (aMn (fun k : Nat => sPin r sp true n k) 1000000000 i))), some (.int (iI i))]) (fun _ => cH h B ca cb) (r (176 + 14 * (n : Int) + 1)).toNat ?_ ?_ N 0 (by omega) (by omega)
  · refine Eq.trans key ?_
    unfold sLe
    rw [aMn_z (z := 1000000000) (z' := 100000000) (by omega) (fun k hk => by have a := sPin_b v.1.1 sp true n k; have b := sPin_nn (sp := sp) (up := true) i (n := n) (k := k) (by omega) hn (by omega) (by omega); omega)]
  · intro K
    rw [eq_X2_leastY_5, o.2.2.1, Option.bind_some, if_pos ((iI_le ⟨by omega, by omega⟩ ⟨by omega, by omega⟩).mpr (by omega))]
  · intro K j hj
    have b := sPin_b v.1.1 sp true n j
    have c := aMn_b (f := fun k : Nat => sPin r sp true n k) (z := 1000000000) (lo := -30000) (hi := 1000000000) (n := j) (by omega) (fun k _ => by have := sPin_b v.1.1 sp true n k; omega)
    rw [eq_X2_leastY_5, o.2.2.1, Option.bind_some, if_neg (fun z => by have := (iI_le ⟨by omega, by omega⟩ ⟨by omega, by omega⟩).mp z; omega), if_pos (pl_isc sp), d_pinY I hn (by omega), Option.bind_some]
    dsimp only
    rw [d_min (by omega) (by omega), Option.bind_some, iI_add]
    dsimp only
    have e : (if sPin r sp true n j < aMn (fun k : Nat => sPin r sp true n k) 1000000000 j then sPin r sp true n j else aMn (fun k : Nat => sPin r sp true n k) 1000000000 j) = aMn (fun k : Nat => sPin r sp true n k) 1000000000 (j + 1) := by
      rw [aMn]
      split <;> split <;> omega
    rw [e]
    rfl
theorem d_mostY2 {sp : Bool} {n : Nat} (hN : 5000 ≤ N) (I : cI r ca s) (hn : (n : Int) < r 3) : fm_X2_mostY N [.ref (pl B sp), .ref (cSl B s + 25 + 3 * n)] (cH h B ca cb) = some (iI (sGr r sp true n), cH h B ca cb) := by
  have i := I.2.2.2.2.2.2.2
  have v := i.1
  have np := (v.2.1 n (by omega) hn).1
  have o := ne_l (h := h) (B := B) (cb := cb) I hn
  rw [en_X2_mostY, eq_X2_mostY_0]
  have key := fix_up (B := cm_X2_mostY_4 N) (R := some (iI (aMx (fun k : Nat => sPin r sp true n k) 0 (r (176 + 14 * (n : Int) + 1)).toNat), cH h B ca cb)) (fun i => [some (.ref (pl B sp)), some (.ref (cSl B s + 25 + 3 * n)), some (.int (iI (aMx (fun k : Nat => sPin r sp true n k) 0 i))), some (.int (iI i))]) (fun _ => cH h B ca cb) (r (176 + 14 * (n : Int) + 1)).toNat ?_ ?_ N 0 (by omega) (by omega)
  · refine Eq.trans key ?_
    unfold sGr
    rw [aMx_z (z := 0) (z' := -100000000) (by omega) (fun k hk => by have a := sPin_b v.1.1 sp true n k; have b := sPin_nn (sp := sp) (up := true) i (n := n) (k := k) (by omega) hn (by omega) (by omega); omega)]
  · intro K
    rw [eq_X2_mostY_4, o.2.2.1, Option.bind_some, if_pos ((iI_le ⟨by omega, by omega⟩ ⟨by omega, by omega⟩).mpr (by omega))]
  · intro K j hj
    have b := sPin_b v.1.1 sp true n j
    have c := aMx_b (f := fun k : Nat => sPin r sp true n k) (z := 0) (lo := -30000) (hi := 1000000000) (n := j) (by omega) (fun k _ => by have := sPin_b v.1.1 sp true n k; omega)
    rw [eq_X2_mostY_4, o.2.2.1, Option.bind_some, if_neg (fun z => by have := (iI_le ⟨by omega, by omega⟩ ⟨by omega, by omega⟩).mp z; omega), if_pos (pl_isc sp), d_pinY I hn (by omega), Option.bind_some]
    dsimp only
    rw [d_max (by omega) (by omega), Option.bind_some, iI_add]
    dsimp only
    have e : (if aMx (fun k : Nat => sPin r sp true n k) 0 j < sPin r sp true n j then sPin r sp true n j else aMx (fun k : Nat => sPin r sp true n k) 0 j) = aMx (fun k : Nat => sPin r sp true n k) 0 (j + 1) := by
      rw [aMx]
      split <;> split <;> omega
    rw [e]
    rfl
theorem d_span {n : Nat} (hN : 5000 ≤ N) (I : cI r ca s) (hn : (n : Int) < r 3) : fm_X2_span N [.ref (B + 7), .ref (cSl B s + 25 + 3 * n)] (cH h B ca cb) = some (iI (sSpan (ca 1 4) r n), cH h B ca cb) := by
  have p1 := pl_isc (h := h) (B := B) (ca := ca) (cb := cb) true
  have p2 := pl_r0 (h := h) (B := B) (ca := ca) (cb := cb) true
  have a1 := d_mostX2 (h := h) (B := B) (cb := cb) (sp := true) hN I hn
  have a2 := d_leastX (h := h) (B := B) (cb := cb) (sp := true) hN I hn
  have a3 := d_mostY2 (h := h) (B := B) (cb := cb) (sp := true) hN I hn
  have a4 := d_leastY (h := h) (B := B) (cb := cb) (sp := true) hN I hn
  rw [show pl B true = B + 7 from rfl] at p1 p2 a1 a2 a3 a4
  rw [en_X2_span, eq_X2_span_0, if_pos p1, a1, Option.bind_some, if_pos p1, a2, Option.bind_some]
  dsimp only
  rw [p2, Option.bind_some, ob_r4, Option.bind_some, tm_l (by omega) (by omega), Option.bind_some, if_pos p1, a3, Option.bind_some, if_pos p1, a4, Option.bind_some, iI_sub, iI_sub, iI_mul, iI_add]
  rfl
theorem d_wire (hN : 5000 ≤ N) (I : cI r ca s) : fm_X1_wire N [.ref B] (cH h B ca cb) = some (iI (sWire (ca 1 4) r), cH h B ca cb) := by
  have v := I.2.2.2.2.2.2.2.1
  have g3 := v.1.2.2.2.2.1
  rw [en_X1_wire, eq_X1_wire_0]
  refine fix_up (B := cm_X1_wire_4 N) (fun i => [some (.ref B), some (.int (iI (aS (fun n => r (176 + 14 * n) * sSpan (ca 1 4) r n) i))), some (.int (iI i))]) (fun _ => cH h B ca cb) (r 3).toNat ?_ ?_ N 0 (by omega) (by omega)
  · intro K
    rw [eq_X1_wire_4, ob_c I, Option.bind_some, ch_g5 I.1, Option.bind_some, l4 I.2.2.1 3 (by omega) (by omega), if_pos ((iI_le ⟨by omega, by omega⟩ ⟨by omega, by omega⟩).mpr (by omega))]
    rfl
  · intro K j hj
    have o := ne_l (h := h) (B := B) (cb := cb) (n := j) I (by omega)
    rw [eq_X1_wire_4, ob_c I, Option.bind_some, ch_g5 I.1, Option.bind_some, l4 I.2.2.1 3 (by omega) (by omega), if_neg (fun z => by have := (iI_le ⟨by omega, by omega⟩ ⟨by omega, by omega⟩).mp z; omega), Option.bind_some, ch_r1 I.1, Option.bind_some, ch_net I.1 (by omega), Option.bind_some, o.2.1, Option.bind_some, ob_r13, Option.bind_some, Option.bind_some, ch_r1 I.1, Option.bind_some, ch_net I.1 (by omega), Option.bind_some, if_pos as_isc2, d_span hN I (by omega), Option.bind_some, iI_mul, iI_add, iI_add]
    rfl
end C7
