/-! ===== the component: reads and writes by places ===== -/
section CW
variable {h : ka_H} {B : Nat} {ca : Nat → Int → Int} {cb : Value}
theorem cKc_chip (B c : Nat) (r : Int → Int) : cKc B c r 0 = .inr (7, [.ref (c + 1), .ref (c + 2), .ref (c + 3), .ref (c + 4), .int (iI (r 2)), .int (iI (r 3)), .int (iI (r 0)), .int (iI (r 1)), .ref B]) := rfl
theorem cKc_cell {B c : Nat} {r : Int → Int} {k : Nat} (hk : k < 20) : cKc B c r (5 + k) = .inr (6, [.int (iI (k : Int)), .int (iI (r (36 + 7 * (k : Int)))), .int (iI (r (36 + 7 * (k : Int) + 1))), .int (iI (r (36 + 7 * (k : Int) + 3))), .int (iI (r (36 + 7 * (k : Int) + 4))), .int (iI (r (36 + 7 * (k : Int) + 5))), .int (iI (r (36 + 7 * (k : Int) + 6))), .int (iI (r (36 + 7 * (k : Int) + 2))), .ref B]) := by
  unfold cKc
  rw [if_neg (by omega), if_neg (by omega), if_neg (by omega), if_neg (by omega), if_neg (by omega), if_pos (by omega), show 5 + k - 5 = k by omega]
theorem cKc_net {B c : Nat} {r : Int → Int} {n : Nat} (hn : n < 16) : cKc B c r (25 + 3 * n) = .inr (8, [.int (iI (r (176 + 14 * (n : Int)))), .int (iI (r (176 + 14 * (n : Int) + 1))), .ref (c + (25 + 3 * n) + 1), .ref (c + (25 + 3 * n) + 2)]) := by
  unfold cKc
  rw [if_neg (by omega), if_neg (by omega), if_neg (by omega), if_neg (by omega), if_neg (by omega), if_neg (by omega), if_pos (by omega), if_pos (by omega), show (25 + 3 * n - 25) / 3 = n by omega]
theorem cKc_who {B c : Nat} {r : Int → Int} {n : Nat} (hn : n < 16) : cKc B c r (25 + 3 * n + 1) = .inl (0, 6, .inl fun m => if m < 6 then iI (r (176 + 14 * (n : Int) + 2 + 2 * (m : Int))) else 0) := by
  unfold cKc
  rw [if_neg (by omega), if_neg (by omega), if_neg (by omega), if_neg (by omega), if_neg (by omega), if_neg (by omega), if_pos (by omega), if_neg (by omega), if_pos (by omega), show (25 + 3 * n + 1 - 25) / 3 = n by omega]
theorem cKc_whr {B c : Nat} {r : Int → Int} {n : Nat} (hn : n < 16) : cKc B c r (25 + 3 * n + 2) = .inl (0, 6, .inl fun m => if m < 6 then iI (r (176 + 14 * (n : Int) + 2 + 2 * (m : Int) + 1)) else 0) := by
  unfold cKc
  rw [if_neg (by omega), if_neg (by omega), if_neg (by omega), if_neg (by omega), if_neg (by omega), if_neg (by omega), if_pos (by omega), if_neg (by omega), if_neg (by omega), show (25 + 3 * n + 2 - 25) / 3 = n by omega]
theorem cKc_blk {B c : Nat} {r : Int → Int} {k : Nat} (hk : k < 4) : cKc B c r (73 + k) = .inr (9, [.int (iI (r (4 + 5 * (k : Int)))), .int (iI (r (4 + 5 * (k : Int) + 1))), .int (iI (r (4 + 5 * (k : Int) + 2))), .int (iI (r (4 + 5 * (k : Int) + 3))), .int (iI (r (4 + 5 * (k : Int) + 4)))]) := by
  unfold cKc
  rw [if_neg (by omega), if_neg (by omega), if_neg (by omega), if_neg (by omega), if_neg (by omega), if_neg (by omega), if_neg (by omega), if_pos (by omega), show 73 + k - 73 = k by omega]
theorem cKc_fen {B c : Nat} {r : Int → Int} {k : Nat} : cKc B c r (77 + k) = .inr (9, [.int (iI (r (24 + 4 * (k : Int)))), .int (iI (r (24 + 4 * (k : Int) + 1))), .int (iI (r (24 + 4 * (k : Int) + 2))), .int (iI (r (24 + 4 * (k : Int) + 3))), .int (iI (r (1000 + (k : Int))))]) := by
  unfold cKc
  rw [if_neg (by omega), if_neg (by omega), if_neg (by omega), if_neg (by omega), if_neg (by omega), if_neg (by omega), if_neg (by omega), if_neg (by omega), show 77 + k - 77 = k by omega]
theorem ce_at {s : Nat} {k : Nat} (hs : s < 14) (hk : k < 20) : (cH h B ca cb).1 (cSl B s + 5 + k) = some (cKc B (cSl B s) (ca (40 + s)) (5 + k)) := by
  have e : cSl B s + 5 + k = cSl B s + (5 + k) := by omega
  rw [e, cH_c hs (by omega)]
theorem ce_isc {s : Nat} {k : Nat} (hs : s < 14) (hk : k < 20) : ka_isc (cH h B ca cb) [6] (cSl B s + 5 + k) = true := by
  unfold ka_isc
  rw [ce_at hs hk, cKc_cell hk]
  rfl
theorem ce_g0 {s : Nat} {k : Nat} (hs : s < 14) (hk : k < 20) : ka_gi (cH h B ca cb) [6] (cSl B s + 5 + k) 0 = some (iI ((k : Int))) := by
  unfold ka_gi ka_gf
  rw [ce_at hs hk, cKc_cell hk]
  rfl
theorem ce_g1 {s : Nat} {k : Nat} (hs : s < 14) (hk : k < 20) : ka_gi (cH h B ca cb) [6] (cSl B s + 5 + k) 1 = some (iI (ca (40 + s) (36 + 7 * (k : Int)))) := by
  unfold ka_gi ka_gf
  rw [ce_at hs hk, cKc_cell hk]
  rfl
theorem ce_g2 {s : Nat} {k : Nat} (hs : s < 14) (hk : k < 20) : ka_gi (cH h B ca cb) [6] (cSl B s + 5 + k) 2 = some (iI (ca (40 + s) (36 + 7 * (k : Int) + 1))) := by
  unfold ka_gi ka_gf
  rw [ce_at hs hk, cKc_cell hk]
  rfl
theorem ce_g3 {s : Nat} {k : Nat} (hs : s < 14) (hk : k < 20) : ka_gi (cH h B ca cb) [6] (cSl B s + 5 + k) 3 = some (iI (ca (40 + s) (36 + 7 * (k : Int) + 3))) := by
  unfold ka_gi ka_gf
  rw [ce_at hs hk, cKc_cell hk]
  rfl
theorem ce_g4 {s : Nat} {k : Nat} (hs : s < 14) (hk : k < 20) : ka_gi (cH h B ca cb) [6] (cSl B s + 5 + k) 4 = some (iI (ca (40 + s) (36 + 7 * (k : Int) + 4))) := by
  unfold ka_gi ka_gf
  rw [ce_at hs hk, cKc_cell hk]
  rfl
theorem ce_g5 {s : Nat} {k : Nat} (hs : s < 14) (hk : k < 20) : ka_gi (cH h B ca cb) [6] (cSl B s + 5 + k) 5 = some (iI (ca (40 + s) (36 + 7 * (k : Int) + 5))) := by
  unfold ka_gi ka_gf
  rw [ce_at hs hk, cKc_cell hk]
  rfl
theorem ce_g6 {s : Nat} {k : Nat} (hs : s < 14) (hk : k < 20) : ka_gi (cH h B ca cb) [6] (cSl B s + 5 + k) 6 = some (iI (ca (40 + s) (36 + 7 * (k : Int) + 6))) := by
  unfold ka_gi ka_gf
  rw [ce_at hs hk, cKc_cell hk]
  rfl
theorem ce_g7 {s : Nat} {k : Nat} (hs : s < 14) (hk : k < 20) : ka_gi (cH h B ca cb) [6] (cSl B s + 5 + k) 7 = some (iI (ca (40 + s) (36 + 7 * (k : Int) + 2))) := by
  unfold ka_gi ka_gf
  rw [ce_at hs hk, cKc_cell hk]
  rfl
theorem ce_r8 {s : Nat} {k : Nat} (hs : s < 14) (hk : k < 20) : ka_gr (cH h B ca cb) [6] (cSl B s + 5 + k) 8 = some (B) := by
  unfold ka_gr ka_gf
  rw [ce_at hs hk, cKc_cell hk]
  rfl
theorem ce_p1 {s : Nat} {k : Nat} (hs : s < 14) (hk : k < 20) (x : Int) : ka_pf (cH h B ca cb) [6] (cSl B s + 5 + k) 1 (.int (iI x)) = some (cH h B (mA ca (40 + s) (rU (ca (40 + s)) (36 + 7 * (k : Int)) x)) cb) := by
  have e : cSl B s + 5 + k = cSl B s + (5 + k) := by omega
  unfold ka_pf
  rw [ce_at hs hk, cKc_cell hk]
  refine Eq.trans (if_pos ⟨by decide, by simp only [List.length_cons, List.length_nil]; omega⟩) ?_
  congr 1
  rw [e]
  refine cH_up hs (by omega) ?_ (fun j hj hne => by unfold cRd; omega)
  rw [cKc_cell hk]
  simp only [List.set_cons_zero, List.set_cons_succ, rU_s]
  repeat rw [rU_n (by omega)]
theorem ce_p2 {s : Nat} {k : Nat} (hs : s < 14) (hk : k < 20) (x : Int) : ka_pf (cH h B ca cb) [6] (cSl B s + 5 + k) 2 (.int (iI x)) = some (cH h B (mA ca (40 + s) (rU (ca (40 + s)) (36 + 7 * (k : Int) + 1) x)) cb) := by
  have e : cSl B s + 5 + k = cSl B s + (5 + k) := by omega
  unfold ka_pf
  rw [ce_at hs hk, cKc_cell hk]
  refine Eq.trans (if_pos ⟨by decide, by simp only [List.length_cons, List.length_nil]; omega⟩) ?_
  congr 1
  rw [e]
  refine cH_up hs (by omega) ?_ (fun j hj hne => by unfold cRd; omega)
  rw [cKc_cell hk]
  simp only [List.set_cons_zero, List.set_cons_succ, rU_s]
  repeat rw [rU_n (by omega)]
theorem ce_p3 {s : Nat} {k : Nat} (hs : s < 14) (hk : k < 20) (x : Int) : ka_pf (cH h B ca cb) [6] (cSl B s + 5 + k) 3 (.int (iI x)) = some (cH h B (mA ca (40 + s) (rU (ca (40 + s)) (36 + 7 * (k : Int) + 3) x)) cb) := by
  have e : cSl B s + 5 + k = cSl B s + (5 + k) := by omega
  unfold ka_pf
  rw [ce_at hs hk, cKc_cell hk]
  refine Eq.trans (if_pos ⟨by decide, by simp only [List.length_cons, List.length_nil]; omega⟩) ?_
  congr 1
  rw [e]
  refine cH_up hs (by omega) ?_ (fun j hj hne => by unfold cRd; omega)
  rw [cKc_cell hk]
  simp only [List.set_cons_zero, List.set_cons_succ, rU_s]
  repeat rw [rU_n (by omega)]
theorem ce_p4 {s : Nat} {k : Nat} (hs : s < 14) (hk : k < 20) (x : Int) : ka_pf (cH h B ca cb) [6] (cSl B s + 5 + k) 4 (.int (iI x)) = some (cH h B (mA ca (40 + s) (rU (ca (40 + s)) (36 + 7 * (k : Int) + 4) x)) cb) := by
  have e : cSl B s + 5 + k = cSl B s + (5 + k) := by omega
  unfold ka_pf
  rw [ce_at hs hk, cKc_cell hk]
  refine Eq.trans (if_pos ⟨by decide, by simp only [List.length_cons, List.length_nil]; omega⟩) ?_
  congr 1
  rw [e]
  refine cH_up hs (by omega) ?_ (fun j hj hne => by unfold cRd; omega)
  rw [cKc_cell hk]
  simp only [List.set_cons_zero, List.set_cons_succ, rU_s]
  repeat rw [rU_n (by omega)]
theorem ce_p5 {s : Nat} {k : Nat} (hs : s < 14) (hk : k < 20) (x : Int) : ka_pf (cH h B ca cb) [6] (cSl B s + 5 + k) 5 (.int (iI x)) = some (cH h B (mA ca (40 + s) (rU (ca (40 + s)) (36 + 7 * (k : Int) + 5) x)) cb) := by
  have e : cSl B s + 5 + k = cSl B s + (5 + k) := by omega
  unfold ka_pf
  rw [ce_at hs hk, cKc_cell hk]
  refine Eq.trans (if_pos ⟨by decide, by simp only [List.length_cons, List.length_nil]; omega⟩) ?_
  congr 1
  rw [e]
  refine cH_up hs (by omega) ?_ (fun j hj hne => by unfold cRd; omega)
  rw [cKc_cell hk]
  simp only [List.set_cons_zero, List.set_cons_succ, rU_s]
  repeat rw [rU_n (by omega)]
theorem ce_p6 {s : Nat} {k : Nat} (hs : s < 14) (hk : k < 20) (x : Int) : ka_pf (cH h B ca cb) [6] (cSl B s + 5 + k) 6 (.int (iI x)) = some (cH h B (mA ca (40 + s) (rU (ca (40 + s)) (36 + 7 * (k : Int) + 6) x)) cb) := by
  have e : cSl B s + 5 + k = cSl B s + (5 + k) := by omega
  unfold ka_pf
  rw [ce_at hs hk, cKc_cell hk]
  refine Eq.trans (if_pos ⟨by decide, by simp only [List.length_cons, List.length_nil]; omega⟩) ?_
  congr 1
  rw [e]
  refine cH_up hs (by omega) ?_ (fun j hj hne => by unfold cRd; omega)
  rw [cKc_cell hk]
  simp only [List.set_cons_zero, List.set_cons_succ, rU_s]
  repeat rw [rU_n (by omega)]
theorem ce_p7 {s : Nat} {k : Nat} (hs : s < 14) (hk : k < 20) (x : Int) : ka_pf (cH h B ca cb) [6] (cSl B s + 5 + k) 7 (.int (iI x)) = some (cH h B (mA ca (40 + s) (rU (ca (40 + s)) (36 + 7 * (k : Int) + 2) x)) cb) := by
  have e : cSl B s + 5 + k = cSl B s + (5 + k) := by omega
  unfold ka_pf
  rw [ce_at hs hk, cKc_cell hk]
  refine Eq.trans (if_pos ⟨by decide, by simp only [List.length_cons, List.length_nil]; omega⟩) ?_
  congr 1
  rw [e]
  refine cH_up hs (by omega) ?_ (fun j hj hne => by unfold cRd; omega)
  rw [cKc_cell hk]
  simp only [List.set_cons_zero, List.set_cons_succ, rU_s]
  repeat rw [rU_n (by omega)]
theorem ch_at {s : Nat} (hs : s < 14) : (cH h B ca cb).1 (cSl B s) = some (cKc B (cSl B s) (ca (40 + s)) (0)) := by
  exact cH_c (i := 0) hs (by omega)
theorem ch_isc {s : Nat} (hs : s < 14) : ka_isc (cH h B ca cb) [7] (cSl B s) = true := by
  unfold ka_isc
  rw [ch_at hs, cKc_chip]
  rfl
theorem ch_r0 {s : Nat} (hs : s < 14) : ka_gr (cH h B ca cb) [7] (cSl B s) 0 = some (cSl B s + 1) := by
  unfold ka_gr ka_gf
  rw [ch_at hs, cKc_chip]
  rfl
theorem ch_r1 {s : Nat} (hs : s < 14) : ka_gr (cH h B ca cb) [7] (cSl B s) 1 = some (cSl B s + 2) := by
  unfold ka_gr ka_gf
  rw [ch_at hs, cKc_chip]
  rfl
theorem ch_r2 {s : Nat} (hs : s < 14) : ka_gr (cH h B ca cb) [7] (cSl B s) 2 = some (cSl B s + 3) := by
  unfold ka_gr ka_gf
  rw [ch_at hs, cKc_chip]
  rfl
theorem ch_r3 {s : Nat} (hs : s < 14) : ka_gr (cH h B ca cb) [7] (cSl B s) 3 = some (cSl B s + 4) := by
  unfold ka_gr ka_gf
  rw [ch_at hs, cKc_chip]
  rfl
theorem ch_g4 {s : Nat} (hs : s < 14) : ka_gi (cH h B ca cb) [7] (cSl B s) 4 = some (iI (ca (40 + s) 2)) := by
  unfold ka_gi ka_gf
  rw [ch_at hs, cKc_chip]
  rfl
theorem ch_g5 {s : Nat} (hs : s < 14) : ka_gi (cH h B ca cb) [7] (cSl B s) 5 = some (iI (ca (40 + s) 3)) := by
  unfold ka_gi ka_gf
  rw [ch_at hs, cKc_chip]
  rfl
theorem ch_g6 {s : Nat} (hs : s < 14) : ka_gi (cH h B ca cb) [7] (cSl B s) 6 = some (iI (ca (40 + s) 0)) := by
  unfold ka_gi ka_gf
  rw [ch_at hs, cKc_chip]
  rfl
theorem ch_g7 {s : Nat} (hs : s < 14) : ka_gi (cH h B ca cb) [7] (cSl B s) 7 = some (iI (ca (40 + s) 1)) := by
  unfold ka_gi ka_gf
  rw [ch_at hs, cKc_chip]
  rfl
theorem ch_r8 {s : Nat} (hs : s < 14) : ka_gr (cH h B ca cb) [7] (cSl B s) 8 = some (B) := by
  unfold ka_gr ka_gf
  rw [ch_at hs, cKc_chip]
  rfl
theorem ch_p4 {s : Nat} (hs : s < 14) (x : Int) : ka_pf (cH h B ca cb) [7] (cSl B s) 4 (.int (iI x)) = some (cH h B (mA ca (40 + s) (rU (ca (40 + s)) (2) x)) cb) := by
  have e : cSl B s = cSl B s + (0) := by omega
  unfold ka_pf
  rw [ch_at hs, cKc_chip]
  refine Eq.trans (if_pos ⟨by decide, by simp only [List.length_cons, List.length_nil]; omega⟩) ?_
  congr 1
  rw [e]
  refine cH_up hs (by omega) ?_ (fun j hj hne => by unfold cRd; omega)
  rw [cKc_chip]
  simp only [List.set_cons_zero, List.set_cons_succ, rU_s]
  repeat rw [rU_n (by omega)]
theorem ch_p5 {s : Nat} (hs : s < 14) (x : Int) : ka_pf (cH h B ca cb) [7] (cSl B s) 5 (.int (iI x)) = some (cH h B (mA ca (40 + s) (rU (ca (40 + s)) (3) x)) cb) := by
  have e : cSl B s = cSl B s + (0) := by omega
  unfold ka_pf
  rw [ch_at hs, cKc_chip]
  refine Eq.trans (if_pos ⟨by decide, by simp only [List.length_cons, List.length_nil]; omega⟩) ?_
  congr 1
  rw [e]
  refine cH_up hs (by omega) ?_ (fun j hj hne => by unfold cRd; omega)
  rw [cKc_chip]
  simp only [List.set_cons_zero, List.set_cons_succ, rU_s]
  repeat rw [rU_n (by omega)]
theorem ch_p6 {s : Nat} (hs : s < 14) (x : Int) : ka_pf (cH h B ca cb) [7] (cSl B s) 6 (.int (iI x)) = some (cH h B (mA ca (40 + s) (rU (ca (40 + s)) (0) x)) cb) := by
  have e : cSl B s = cSl B s + (0) := by omega
  unfold ka_pf
  rw [ch_at hs, cKc_chip]
  refine Eq.trans (if_pos ⟨by decide, by simp only [List.length_cons, List.length_nil]; omega⟩) ?_
  congr 1
  rw [e]
  refine cH_up hs (by omega) ?_ (fun j hj hne => by unfold cRd; omega)
  rw [cKc_chip]
  simp only [List.set_cons_zero, List.set_cons_succ, rU_s]
  repeat rw [rU_n (by omega)]
theorem ch_p7 {s : Nat} (hs : s < 14) (x : Int) : ka_pf (cH h B ca cb) [7] (cSl B s) 7 (.int (iI x)) = some (cH h B (mA ca (40 + s) (rU (ca (40 + s)) (1) x)) cb) := by
  have e : cSl B s = cSl B s + (0) := by omega
  unfold ka_pf
  rw [ch_at hs, cKc_chip]
  refine Eq.trans (if_pos ⟨by decide, by simp only [List.length_cons, List.length_nil]; omega⟩) ?_
  congr 1
  rw [e]
  refine cH_up hs (by omega) ?_ (fun j hj hne => by unfold cRd; omega)
  rw [cKc_chip]
  simp only [List.set_cons_zero, List.set_cons_succ, rU_s]
  repeat rw [rU_n (by omega)]
theorem ne_at {s : Nat} {n : Nat} (hs : s < 14) (hn : n < 16) : (cH h B ca cb).1 (cSl B s + 25 + 3 * n) = some (cKc B (cSl B s) (ca (40 + s)) (25 + 3 * n)) := by
  have e : cSl B s + 25 + 3 * n = cSl B s + (25 + 3 * n) := by omega
  rw [e, cH_c hs (by omega)]
theorem ne_isc {s : Nat} {n : Nat} (hs : s < 14) (hn : n < 16) : ka_isc (cH h B ca cb) [8] (cSl B s + 25 + 3 * n) = true := by
  unfold ka_isc
  rw [ne_at hs hn, cKc_net hn]
  rfl
theorem ne_g0 {s : Nat} {n : Nat} (hs : s < 14) (hn : n < 16) : ka_gi (cH h B ca cb) [8] (cSl B s + 25 + 3 * n) 0 = some (iI (ca (40 + s) (176 + 14 * (n : Int)))) := by
  unfold ka_gi ka_gf
  rw [ne_at hs hn, cKc_net hn]
  rfl
theorem ne_g1 {s : Nat} {n : Nat} (hs : s < 14) (hn : n < 16) : ka_gi (cH h B ca cb) [8] (cSl B s + 25 + 3 * n) 1 = some (iI (ca (40 + s) (176 + 14 * (n : Int) + 1))) := by
  unfold ka_gi ka_gf
  rw [ne_at hs hn, cKc_net hn]
  rfl
theorem ne_p0 {s : Nat} {n : Nat} (hs : s < 14) (hn : n < 16) (x : Int) : ka_pf (cH h B ca cb) [8] (cSl B s + 25 + 3 * n) 0 (.int (iI x)) = some (cH h B (mA ca (40 + s) (rU (ca (40 + s)) (176 + 14 * (n : Int)) x)) cb) := by
  have e : cSl B s + 25 + 3 * n = cSl B s + (25 + 3 * n) := by omega
  unfold ka_pf
  rw [ne_at hs hn, cKc_net hn]
  refine Eq.trans (if_pos ⟨by decide, by simp only [List.length_cons, List.length_nil]; omega⟩) ?_
  congr 1
  rw [e]
  refine cH_up hs (by omega) ?_ (fun j hj hne => by unfold cRd; omega)
  rw [cKc_net hn]
  simp only [List.set_cons_zero, List.set_cons_succ, rU_s]
  repeat rw [rU_n (by omega)]
theorem ne_p1 {s : Nat} {n : Nat} (hs : s < 14) (hn : n < 16) (x : Int) : ka_pf (cH h B ca cb) [8] (cSl B s + 25 + 3 * n) 1 (.int (iI x)) = some (cH h B (mA ca (40 + s) (rU (ca (40 + s)) (176 + 14 * (n : Int) + 1) x)) cb) := by
  have e : cSl B s + 25 + 3 * n = cSl B s + (25 + 3 * n) := by omega
  unfold ka_pf
  rw [ne_at hs hn, cKc_net hn]
  refine Eq.trans (if_pos ⟨by decide, by simp only [List.length_cons, List.length_nil]; omega⟩) ?_
  congr 1
  rw [e]
  refine cH_up hs (by omega) ?_ (fun j hj hne => by unfold cRd; omega)
  rw [cKc_net hn]
  simp only [List.set_cons_zero, List.set_cons_succ, rU_s]
  repeat rw [rU_n (by omega)]
theorem ne_r2 {s n : Nat} (hs : s < 14) (hn : n < 16) : ka_gr (cH h B ca cb) [8] (cSl B s + 25 + 3 * n) 2 = some (cSl B s + 25 + 3 * n + 1) := by
  unfold ka_gr ka_gf
  rw [ne_at hs hn, cKc_net hn]
  show some (cSl B s + (25 + 3 * n) + 1) = _
  congr 1
  omega
theorem ne_r3 {s n : Nat} (hs : s < 14) (hn : n < 16) : ka_gr (cH h B ca cb) [8] (cSl B s + 25 + 3 * n) 3 = some (cSl B s + 25 + 3 * n + 2) := by
  unfold ka_gr ka_gf
  rw [ne_at hs hn, cKc_net hn]
  show some (cSl B s + (25 + 3 * n) + 2) = _
  congr 1
  omega
theorem bl_at {s : Nat} {k : Nat} (hs : s < 14) (hk : k < 4) : (cH h B ca cb).1 (cSl B s + 73 + k) = some (cKc B (cSl B s) (ca (40 + s)) (73 + k)) := by
  have e : cSl B s + 73 + k = cSl B s + (73 + k) := by omega
  rw [e, cH_c hs (by omega)]
theorem bl_isc {s : Nat} {k : Nat} (hs : s < 14) (hk : k < 4) : ka_isc (cH h B ca cb) [9] (cSl B s + 73 + k) = true := by
  unfold ka_isc
  rw [bl_at hs hk, cKc_blk hk]
  rfl
theorem bl_g0 {s : Nat} {k : Nat} (hs : s < 14) (hk : k < 4) : ka_gi (cH h B ca cb) [9] (cSl B s + 73 + k) 0 = some (iI (ca (40 + s) (4 + 5 * (k : Int)))) := by
  unfold ka_gi ka_gf
  rw [bl_at hs hk, cKc_blk hk]
  rfl
theorem bl_g1 {s : Nat} {k : Nat} (hs : s < 14) (hk : k < 4) : ka_gi (cH h B ca cb) [9] (cSl B s + 73 + k) 1 = some (iI (ca (40 + s) (4 + 5 * (k : Int) + 1))) := by
  unfold ka_gi ka_gf
  rw [bl_at hs hk, cKc_blk hk]
  rfl
theorem bl_g2 {s : Nat} {k : Nat} (hs : s < 14) (hk : k < 4) : ka_gi (cH h B ca cb) [9] (cSl B s + 73 + k) 2 = some (iI (ca (40 + s) (4 + 5 * (k : Int) + 2))) := by
  unfold ka_gi ka_gf
  rw [bl_at hs hk, cKc_blk hk]
  rfl
theorem bl_g3 {s : Nat} {k : Nat} (hs : s < 14) (hk : k < 4) : ka_gi (cH h B ca cb) [9] (cSl B s + 73 + k) 3 = some (iI (ca (40 + s) (4 + 5 * (k : Int) + 3))) := by
  unfold ka_gi ka_gf
  rw [bl_at hs hk, cKc_blk hk]
  rfl
theorem bl_g4 {s : Nat} {k : Nat} (hs : s < 14) (hk : k < 4) : ka_gi (cH h B ca cb) [9] (cSl B s + 73 + k) 4 = some (iI (ca (40 + s) (4 + 5 * (k : Int) + 4))) := by
  unfold ka_gi ka_gf
  rw [bl_at hs hk, cKc_blk hk]
  rfl
theorem bl_p0 {s : Nat} {k : Nat} (hs : s < 14) (hk : k < 4) (x : Int) : ka_pf (cH h B ca cb) [9] (cSl B s + 73 + k) 0 (.int (iI x)) = some (cH h B (mA ca (40 + s) (rU (ca (40 + s)) (4 + 5 * (k : Int)) x)) cb) := by
  have e : cSl B s + 73 + k = cSl B s + (73 + k) := by omega
  unfold ka_pf
  rw [bl_at hs hk, cKc_blk hk]
  refine Eq.trans (if_pos ⟨by decide, by simp only [List.length_cons, List.length_nil]; omega⟩) ?_
  congr 1
  rw [e]
  refine cH_up hs (by omega) ?_ (fun j hj hne => by unfold cRd; omega)
  rw [cKc_blk hk]
  simp only [List.set_cons_zero, List.set_cons_succ, rU_s]
  repeat rw [rU_n (by omega)]
theorem bl_p1 {s : Nat} {k : Nat} (hs : s < 14) (hk : k < 4) (x : Int) : ka_pf (cH h B ca cb) [9] (cSl B s + 73 + k) 1 (.int (iI x)) = some (cH h B (mA ca (40 + s) (rU (ca (40 + s)) (4 + 5 * (k : Int) + 1) x)) cb) := by
  have e : cSl B s + 73 + k = cSl B s + (73 + k) := by omega
  unfold ka_pf
  rw [bl_at hs hk, cKc_blk hk]
  refine Eq.trans (if_pos ⟨by decide, by simp only [List.length_cons, List.length_nil]; omega⟩) ?_
  congr 1
  rw [e]
  refine cH_up hs (by omega) ?_ (fun j hj hne => by unfold cRd; omega)
  rw [cKc_blk hk]
  simp only [List.set_cons_zero, List.set_cons_succ, rU_s]
  repeat rw [rU_n (by omega)]
theorem bl_p2 {s : Nat} {k : Nat} (hs : s < 14) (hk : k < 4) (x : Int) : ka_pf (cH h B ca cb) [9] (cSl B s + 73 + k) 2 (.int (iI x)) = some (cH h B (mA ca (40 + s) (rU (ca (40 + s)) (4 + 5 * (k : Int) + 2) x)) cb) := by
  have e : cSl B s + 73 + k = cSl B s + (73 + k) := by omega
  unfold ka_pf
  rw [bl_at hs hk, cKc_blk hk]
  refine Eq.trans (if_pos ⟨by decide, by simp only [List.length_cons, List.length_nil]; omega⟩) ?_
  congr 1
  rw [e]
  refine cH_up hs (by omega) ?_ (fun j hj hne => by unfold cRd; omega)
  rw [cKc_blk hk]
  simp only [List.set_cons_zero, List.set_cons_succ, rU_s]
  repeat rw [rU_n (by omega)]
theorem bl_p3 {s : Nat} {k : Nat} (hs : s < 14) (hk : k < 4) (x : Int) : ka_pf (cH h B ca cb) [9] (cSl B s + 73 + k) 3 (.int (iI x)) = some (cH h B (mA ca (40 + s) (rU (ca (40 + s)) (4 + 5 * (k : Int) + 3) x)) cb) := by
  have e : cSl B s + 73 + k = cSl B s + (73 + k) := by omega
  unfold ka_pf
  rw [bl_at hs hk, cKc_blk hk]
  refine Eq.trans (if_pos ⟨by decide, by simp only [List.length_cons, List.length_nil]; omega⟩) ?_
  congr 1
  rw [e]
  refine cH_up hs (by omega) ?_ (fun j hj hne => by unfold cRd; omega)
  rw [cKc_blk hk]
  simp only [List.set_cons_zero, List.set_cons_succ, rU_s]
  repeat rw [rU_n (by omega)]
theorem bl_p4 {s : Nat} {k : Nat} (hs : s < 14) (hk : k < 4) (x : Int) : ka_pf (cH h B ca cb) [9] (cSl B s + 73 + k) 4 (.int (iI x)) = some (cH h B (mA ca (40 + s) (rU (ca (40 + s)) (4 + 5 * (k : Int) + 4) x)) cb) := by
  have e : cSl B s + 73 + k = cSl B s + (73 + k) := by omega
  unfold ka_pf
  rw [bl_at hs hk, cKc_blk hk]
  refine Eq.trans (if_pos ⟨by decide, by simp only [List.length_cons, List.length_nil]; omega⟩) ?_
  congr 1
  rw [e]
  refine cH_up hs (by omega) ?_ (fun j hj hne => by unfold cRd; omega)
  rw [cKc_blk hk]
  simp only [List.set_cons_zero, List.set_cons_succ, rU_s]
  repeat rw [rU_n (by omega)]
theorem fe_at {s k : Nat} (hs : s < 14) (hk : k < 3) : (cH h B ca cb).1 (cSl B s + 77 + k) = some (cKc B (cSl B s) (ca (40 + s)) (77 + k)) := by
  have e : cSl B s + 77 + k = cSl B s + (77 + k) := by omega
  rw [e, cH_c hs (by omega)]
theorem fe_isc {s k : Nat} (hs : s < 14) (hk : k < 3) : ka_isc (cH h B ca cb) [9] (cSl B s + 77 + k) = true := by
  unfold ka_isc
  rw [fe_at hs hk, cKc_fen]
  rfl
theorem fe_g0 {s k : Nat} (hs : s < 14) (hk : k < 3) : ka_gi (cH h B ca cb) [9] (cSl B s + 77 + k) 0 = some (iI (ca (40 + s) (24 + 4 * (k : Int)))) := by
  unfold ka_gi ka_gf
  rw [fe_at hs hk, cKc_fen]
  rfl
theorem fe_p0 {s k : Nat} (hs : s < 14) (hk : k < 3) (x : Int) : ka_pf (cH h B ca cb) [9] (cSl B s + 77 + k) 0 (.int (iI x)) = some (cH h B (mA ca (40 + s) (rU (ca (40 + s)) (24 + 4 * (k : Int)) x)) cb) := by
  have e : cSl B s + 77 + k = cSl B s + (77 + k) := by omega
  unfold ka_pf
  rw [fe_at hs hk, cKc_fen]
  refine Eq.trans (if_pos ⟨by decide, by simp only [List.length_cons, List.length_nil]; omega⟩) ?_
  congr 1
  rw [e]
  refine cH_up hs (by omega) ?_ (fun j hj hne => by unfold cRd; omega)
  rw [cKc_fen]
  simp only [List.set_cons_zero, List.set_cons_succ, rU_s]
  repeat rw [rU_n (by omega)]
theorem fe_g1 {s k : Nat} (hs : s < 14) (hk : k < 3) : ka_gi (cH h B ca cb) [9] (cSl B s + 77 + k) 1 = some (iI (ca (40 + s) (24 + 4 * (k : Int) + 1))) := by
  unfold ka_gi ka_gf
  rw [fe_at hs hk, cKc_fen]
  rfl
theorem fe_p1 {s k : Nat} (hs : s < 14) (hk : k < 3) (x : Int) : ka_pf (cH h B ca cb) [9] (cSl B s + 77 + k) 1 (.int (iI x)) = some (cH h B (mA ca (40 + s) (rU (ca (40 + s)) (24 + 4 * (k : Int) + 1) x)) cb) := by
  have e : cSl B s + 77 + k = cSl B s + (77 + k) := by omega
  unfold ka_pf
  rw [fe_at hs hk, cKc_fen]
  refine Eq.trans (if_pos ⟨by decide, by simp only [List.length_cons, List.length_nil]; omega⟩) ?_
  congr 1
  rw [e]
  refine cH_up hs (by omega) ?_ (fun j hj hne => by unfold cRd; omega)
  rw [cKc_fen]
  simp only [List.set_cons_zero, List.set_cons_succ, rU_s]
  repeat rw [rU_n (by omega)]
theorem fe_g2 {s k : Nat} (hs : s < 14) (hk : k < 3) : ka_gi (cH h B ca cb) [9] (cSl B s + 77 + k) 2 = some (iI (ca (40 + s) (24 + 4 * (k : Int) + 2))) := by
  unfold ka_gi ka_gf
  rw [fe_at hs hk, cKc_fen]
  rfl
theorem fe_p2 {s k : Nat} (hs : s < 14) (hk : k < 3) (x : Int) : ka_pf (cH h B ca cb) [9] (cSl B s + 77 + k) 2 (.int (iI x)) = some (cH h B (mA ca (40 + s) (rU (ca (40 + s)) (24 + 4 * (k : Int) + 2) x)) cb) := by
  have e : cSl B s + 77 + k = cSl B s + (77 + k) := by omega
  unfold ka_pf
  rw [fe_at hs hk, cKc_fen]
  refine Eq.trans (if_pos ⟨by decide, by simp only [List.length_cons, List.length_nil]; omega⟩) ?_
  congr 1
  rw [e]
  refine cH_up hs (by omega) ?_ (fun j hj hne => by unfold cRd; omega)
  rw [cKc_fen]
  simp only [List.set_cons_zero, List.set_cons_succ, rU_s]
  repeat rw [rU_n (by omega)]
theorem fe_g3 {s k : Nat} (hs : s < 14) (hk : k < 3) : ka_gi (cH h B ca cb) [9] (cSl B s + 77 + k) 3 = some (iI (ca (40 + s) (24 + 4 * (k : Int) + 3))) := by
  unfold ka_gi ka_gf
  rw [fe_at hs hk, cKc_fen]
  rfl
theorem fe_p3 {s k : Nat} (hs : s < 14) (hk : k < 3) (x : Int) : ka_pf (cH h B ca cb) [9] (cSl B s + 77 + k) 3 (.int (iI x)) = some (cH h B (mA ca (40 + s) (rU (ca (40 + s)) (24 + 4 * (k : Int) + 3) x)) cb) := by
  have e : cSl B s + 77 + k = cSl B s + (77 + k) := by omega
  unfold ka_pf
  rw [fe_at hs hk, cKc_fen]
  refine Eq.trans (if_pos ⟨by decide, by simp only [List.length_cons, List.length_nil]; omega⟩) ?_
  congr 1
  rw [e]
  refine cH_up hs (by omega) ?_ (fun j hj hne => by unfold cRd; omega)
  rw [cKc_fen]
  simp only [List.set_cons_zero, List.set_cons_succ, rU_s]
  repeat rw [rU_n (by omega)]
theorem fe_g4 {s k : Nat} (hs : s < 14) (hk : k < 3) : ka_gi (cH h B ca cb) [9] (cSl B s + 77 + k) 4 = some (iI (ca (40 + s) (1000 + (k : Int)))) := by
  unfold ka_gi ka_gf
  rw [fe_at hs hk, cKc_fen]
  rfl
theorem fe_p4 {s k : Nat} (hs : s < 14) (hk : k < 3) (x : Int) : ka_pf (cH h B ca cb) [9] (cSl B s + 77 + k) 4 (.int (iI x)) = some (cH h B (mA ca (40 + s) (rU (ca (40 + s)) (1000 + (k : Int)) x)) cb) := by
  have e : cSl B s + 77 + k = cSl B s + (77 + k) := by omega
  unfold ka_pf
  rw [fe_at hs hk, cKc_fen]
  refine Eq.trans (if_pos ⟨by decide, by simp only [List.length_cons, List.length_nil]; omega⟩) ?_
  congr 1
  rw [e]
  refine cH_up hs (by omega) ?_ (fun j hj hne => by unfold cRd; omega)
  rw [cKc_fen]
  simp only [List.set_cons_zero, List.set_cons_succ, rU_s]
  repeat rw [rU_n (by omega)]
theorem ch_cell {s k : Nat} (hs : s < 14) (hk : k < 20) : ka_la (cH h B ca cb) (cSl B s + 1) (iI (k : Int)) = some (cSl B s + 5 + k) := by
  unfold ka_la
  rw [cH_c hs (by omega), show cKc B (cSl B s) (ca (40 + s)) 1 = .inl (4, 20, .inr fun j => if j < 20 then some (cSl B s + 5 + j) else none) from rfl]
  have ek : (iI (k : Int)).toNatClampNeg = k := by rw [iI_clamp ⟨by omega, by omega⟩, Int.toNat_natCast]
  have hn : ¬ (iI (k : Int) < 0) := by rw [← iI_0, iI_lt ⟨by omega, by omega⟩ ⟨by decide, by decide⟩]; omega
  dsimp only
  rw [ek, if_pos ⟨by decide, fun z => by rcases z with z | z; exact hn z; omega⟩, if_pos hk]
theorem ch_net {s k : Nat} (hs : s < 14) (hk : k < 16) : ka_la (cH h B ca cb) (cSl B s + 2) (iI (k : Int)) = some (cSl B s + 25 + 3 * k) := by
  unfold ka_la
  rw [cH_c hs (by omega), show cKc B (cSl B s) (ca (40 + s)) 2 = .inl (5, 16, .inr fun j => if j < 16 then some (cSl B s + 25 + 3 * j) else none) from rfl]
  have ek : (iI (k : Int)).toNatClampNeg = k := by rw [iI_clamp ⟨by omega, by omega⟩, Int.toNat_natCast]
  have hn : ¬ (iI (k : Int) < 0) := by rw [← iI_0, iI_lt ⟨by omega, by omega⟩ ⟨by decide, by decide⟩]; omega
  dsimp only
  rw [ek, if_pos ⟨by decide, fun z => by rcases z with z | z; exact hn z; omega⟩, if_pos hk]
theorem ch_blk {s k : Nat} (hs : s < 14) (hk : k < 4) : ka_la (cH h B ca cb) (cSl B s + 3) (iI (k : Int)) = some (cSl B s + 73 + k) := by
  unfold ka_la
  rw [cH_c hs (by omega), show cKc B (cSl B s) (ca (40 + s)) 3 = .inl (6, 4, .inr fun j => if j < 4 then some (cSl B s + 73 + j) else none) from rfl]
  have ek : (iI (k : Int)).toNatClampNeg = k := by rw [iI_clamp ⟨by omega, by omega⟩, Int.toNat_natCast]
  have hn : ¬ (iI (k : Int) < 0) := by rw [← iI_0, iI_lt ⟨by omega, by omega⟩ ⟨by decide, by decide⟩]; omega
  dsimp only
  rw [ek, if_pos ⟨by decide, fun z => by rcases z with z | z; exact hn z; omega⟩, if_pos hk]
theorem ch_fen {s k : Nat} (hs : s < 14) (hk : k < 3) : ka_la (cH h B ca cb) (cSl B s + 4) (iI (k : Int)) = some (cSl B s + 77 + k) := by
  unfold ka_la
  rw [cH_c hs (by omega), show cKc B (cSl B s) (ca (40 + s)) 4 = .inl (6, 3, .inr fun j => if j < 3 then some (cSl B s + 77 + j) else none) from rfl]
  have ek : (iI (k : Int)).toNatClampNeg = k := by rw [iI_clamp ⟨by omega, by omega⟩, Int.toNat_natCast]
  have hn : ¬ (iI (k : Int) < 0) := by rw [← iI_0, iI_lt ⟨by omega, by omega⟩ ⟨by decide, by decide⟩]; omega
  dsimp only
  rw [ek, if_pos ⟨by decide, fun z => by rcases z with z | z; exact hn z; omega⟩, if_pos hk]
theorem wo_l {s n m : Nat} (hs : s < 14) (hn : n < 16) (hm : m < 6) : ka_ld 0 (cH h B ca cb) (cSl B s + 25 + 3 * n + 1) (iI (m : Int)) = some (iI (ca (40 + s) (176 + 14 * (n : Int) + 2 + 2 * (m : Int)))) := by
  have e : cSl B s + 25 + 3 * n + 1 = cSl B s + (25 + 3 * n + 1) := by omega
  have ek : (iI (m : Int)).toNatClampNeg = m := by rw [iI_clamp ⟨by omega, by omega⟩, Int.toNat_natCast]
  have hn0 : ¬ (iI (m : Int) < 0) := by rw [← iI_0, iI_lt ⟨by omega, by omega⟩ ⟨by decide, by decide⟩]; omega
  unfold ka_ld
  rw [e, cH_c hs (by omega), cKc_who hn]
  dsimp only
  rw [ek, if_pos ⟨Or.inl rfl, fun z => by rcases z with z | z; exact hn0 z; omega⟩, if_pos hm]
theorem wo_s {s n m : Nat} (hs : s < 14) (hn : n < 16) (hm : m < 6) (x : Int) : ka_sd 0 (cH h B ca cb) (cSl B s + 25 + 3 * n + 1) (iI (m : Int)) (iI x) = some (cH h B (mA ca (40 + s) (rU (ca (40 + s)) (176 + 14 * (n : Int) + 2 + 2 * (m : Int)) x)) cb) := by
  have e : cSl B s + 25 + 3 * n + 1 = cSl B s + (25 + 3 * n + 1) := by omega
  have ek : (iI (m : Int)).toNatClampNeg = m := by rw [iI_clamp ⟨by omega, by omega⟩, Int.toNat_natCast]
  have hn0 : ¬ (iI (m : Int) < 0) := by rw [← iI_0, iI_lt ⟨by omega, by omega⟩ ⟨by decide, by decide⟩]; omega
  unfold ka_sd
  rw [e, cH_c hs (by omega), cKc_who hn]
  dsimp only
  rw [ek, if_pos ⟨rfl, fun z => by rcases z with z | z; exact hn0 z; omega⟩]
  congr 1
  refine cH_up hs (by omega) ?_ (fun j hj hne => by unfold cRd; omega)
  rw [cKc_who hn]
  congr 4
  funext j
  unfold upd
  by_cases ej : j = m
  · subst ej
    rw [if_pos rfl, if_pos hm]
    unfold rU
    rw [if_pos (by omega)]
  · rw [if_neg ej]
    dsimp only
    by_cases hj : j < 6
    · rw [if_pos hj, if_pos hj, rU_n (by omega)]
    · rw [if_neg hj, if_neg hj]
theorem we_l {s n m : Nat} (hs : s < 14) (hn : n < 16) (hm : m < 6) : ka_ld 0 (cH h B ca cb) (cSl B s + 25 + 3 * n + 2) (iI (m : Int)) = some (iI (ca (40 + s) (176 + 14 * (n : Int) + 2 + 2 * (m : Int) + 1))) := by
  have e : cSl B s + 25 + 3 * n + 2 = cSl B s + (25 + 3 * n + 2) := by omega
  have ek : (iI (m : Int)).toNatClampNeg = m := by rw [iI_clamp ⟨by omega, by omega⟩, Int.toNat_natCast]
  have hn0 : ¬ (iI (m : Int) < 0) := by rw [← iI_0, iI_lt ⟨by omega, by omega⟩ ⟨by decide, by decide⟩]; omega
  unfold ka_ld
  rw [e, cH_c hs (by omega), cKc_whr hn]
  dsimp only
  rw [ek, if_pos ⟨Or.inl rfl, fun z => by rcases z with z | z; exact hn0 z; omega⟩, if_pos hm]
theorem we_s {s n m : Nat} (hs : s < 14) (hn : n < 16) (hm : m < 6) (x : Int) : ka_sd 0 (cH h B ca cb) (cSl B s + 25 + 3 * n + 2) (iI (m : Int)) (iI x) = some (cH h B (mA ca (40 + s) (rU (ca (40 + s)) (176 + 14 * (n : Int) + 2 + 2 * (m : Int) + 1) x)) cb) := by
  have e : cSl B s + 25 + 3 * n + 2 = cSl B s + (25 + 3 * n + 2) := by omega
  have ek : (iI (m : Int)).toNatClampNeg = m := by rw [iI_clamp ⟨by omega, by omega⟩, Int.toNat_natCast]
  have hn0 : ¬ (iI (m : Int) < 0) := by rw [← iI_0, iI_lt ⟨by omega, by omega⟩ ⟨by decide, by decide⟩]; omega
  unfold ka_sd
  rw [e, cH_c hs (by omega), cKc_whr hn]
  dsimp only
  rw [ek, if_pos ⟨rfl, fun z => by rcases z with z | z; exact hn0 z; omega⟩]
  congr 1
  refine cH_up hs (by omega) ?_ (fun j hj hne => by unfold cRd; omega)
  rw [cKc_whr hn]
  congr 4
  funext j
  unfold upd
  by_cases ej : j = m
  · subst ej
    rw [if_pos rfl, if_pos hm]
    unfold rU
    rw [if_pos (by omega)]
  · rw [if_neg ej]
    dsimp only
    by_cases hj : j < 6
    · rw [if_pos hj, if_pos hj, rU_n (by omega)]
    · rw [if_neg hj, if_neg hj]
end CW
