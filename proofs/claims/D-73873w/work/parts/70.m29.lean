/-! ===== the model: spread ===== -/
theorem aS_mul_le {f s : Nat → Int} {M : Int} {n : Nat} (hf : ∀ k, k < n → f k ≤ M) (hs : ∀ k, k < n → 0 ≤ s k) : aS (fun k => f k * s k) n ≤ M * aS s n := by
  induction n with
  | zero => simp [aS]
  | succ n ih =>
    rw [aS, aS, Int.mul_add]
    have h1 := ih (fun k hk => hf k (by omega)) (fun k hk => hs k (by omega))
    have h2 := Int.mul_le_mul_of_nonneg_right (hf n (by omega)) (hs n (by omega))
    omega
theorem sMF_b {g : Int} {f : Nat → Int} {n : Nat} {M : Int} (hg : 1 ≤ g) (hn : n ≤ 6) (hM : M ≤ 60000) (hf : ∀ k, k < n → 0 ≤ f k ∧ f k ≤ M) (hz : ∃ k, k < n ∧ f k = 0) : 0 ≤ sMF g f n ∧ sMF g f n ≤ M := by
  have x1 := sMF_num (g := g) (f := f) (n := n) hg hn (fun k hk => by have := hf k hk; omega)
  have x2 := sMF_den (g := g) (f := f) (n := n) hg hn (fun k hk => by have := hf k hk; omega) hz
  have x3 := aS_mul_le (f := f) (s := fun k => sSha g (f k)) (M := M) (n := n) (fun k hk => (hf k hk).2) (fun k hk => (sSha_b hg (hf k hk).1).1)
  unfold sMF
  exact ⟨Int.ediv_nonneg x1.1 (by omega), Int.ediv_le_of_le_mul (by omega) x3⟩
theorem sPinW_b {r : Int → Int} (hB : rB r) (up : Bool) (n k : Int) : -9 - 16 ≤ sPin r false up n k ∧ sPin r false up n k ≤ 10208 := by
  have b1 := hB (176 + 14 * n + 2 + 2 * k)
  have b2 := hB (176 + 14 * n + 2 + 2 * k + 1)
  have b3 := hB (36 + 7 * sWho r n k + 3)
  have b4 := hB (36 + 7 * sWho r n k + 4)
  unfold sPin sPX sPY
  unfold sWhr
  have e : sWho r n k = r (176 + 14 * n + 2 + 2 * k) := rfl
  repeat' split
  all_goals simp_all
  all_goals omega
theorem sSmB_b {g : Int} {r : Int → Int} {up : Bool} {n : Int} (hg : 1 ≤ g) (ok : rOk r) (nk : nOk r) (h0 : 0 ≤ n) (h1 : n < r 3) : -30000 ≤ sSmB g r up n ∧ sSmB g r up n ≤ 30000 := by
  obtain ⟨k1, k2⟩ := nk n h0 h1
  obtain ⟨j, h3, h4⟩ := aMx_at (f := fun k : Nat => sPin r false up n k) (z := -100000000) (n := (r (176 + 14 * n + 1)).toNat) (by omega) (fun k _ => by have := sPin_b ok.1 false up n k; omega)
  obtain ⟨j', h3', h4'⟩ := aMn_at (f := fun k : Nat => sPin r false up n k) (z := 100000000) (n := (r (176 + 14 * n + 1)).toNat) (by omega) (fun k _ => by have := sPin_b ok.1 false up n k; omega)
  have b1 := sPinW_b ok.1 up n j
  have b2 := sPinW_b ok.1 up n j'
  have g1 : sGr r false up n = sPin r false up n j := h4
  have g2 : sLe r false up n = sPin r false up n j' := h4'
  have g3 : sPin r false up n j' ≤ sGr r false up n := aMx_ge (f := fun k : Nat => sPin r false up n k) (z := -100000000) h3'
  have m1 := sMF_b (g := g) (f := sHiF r up n) (n := (r (176 + 14 * n + 1)).toNat) (M := 10233) hg (by omega) (by omega) (fun k hk => by
    have := sHiF_b (up := up) ok.1 hk
    have b3 := sPinW_b ok.1 up n k
    refine ⟨this.1, ?_⟩
    unfold sHiF
    omega) (sHiF_0 ok.1 (by omega))
  have m2 := sMF_b (g := g) (f := sLoF r up n) (n := (r (176 + 14 * n + 1)).toNat) (M := 10233) hg (by omega) (by omega) (fun k hk => by
    have := sLoF_b (up := up) ok.1 hk
    have b3 := sPinW_b ok.1 up n k
    refine ⟨this.1, ?_⟩
    unfold sLoF
    omega) (sLoF_0 ok.1 (by omega))
  unfold sSmB
  omega
theorem mul_c {x y X Y : Int} (h1 : 0 ≤ x) (h2 : x ≤ X) (h3 : -Y ≤ y) (h4 : y ≤ Y) (hY : 0 ≤ Y) : -(X * Y) ≤ x * y ∧ x * y ≤ X * Y := by
  have e1 : x * y ≤ x * Y := Int.mul_le_mul_of_nonneg_left h4 h1
  have e2 : x * Y ≤ X * Y := Int.mul_le_mul_of_nonneg_right h2 hY
  have e3 : x * (-Y) ≤ x * y := Int.mul_le_mul_of_nonneg_left h3 h1
  rw [Int.mul_neg] at e3
  omega
theorem sCost_b {t : Int → Int} {rows sites : Int} {r u : Int → Int} (v : vOk r) (tm : tmOk t) (s1 : 1 ≤ rows ∧ rows ≤ 8) (s2 : 8 ≤ sites ∧ sites ≤ 32) (hu : ∀ b, 0 ≤ b → b < sBins rows sites → 0 ≤ u b ∧ u b ≤ 4096) : -1500000000 ≤ sCost t rows sites r u ∧ sCost t rows sites r u ≤ 1500000000 := by
  have g3 := v.1.2.2.2.2.1
  have sb := sBins_b s1 s2
  obtain ⟨t0, t1, t2, t3, t4, t5⟩ := tm
  have x1 := aS_b (f := fun n : Nat => r (176 + 14 * n) * sSm (t 4) (t 0) r n) (lo := -2430000) (hi := 2430000) (n := (r 3).toNat) (fun k hk => by
    have w := v.2.2.2 k (by omega) (by omega)
    have y1 := sSmB_b (g := t 0) (up := false) t0.1 v.1 v.2.1 (n := k) (by omega) (by omega)
    have y2 := sSmB_b (g := t 0) (up := true) t0.1 v.1 v.2.1 (n := k) (by omega) (by omega)
    have y3 := mul_c (x := t 4) (X := 8) (y := sSmB (t 0) r true k) (Y := 30000) (by omega) (by omega) (by omega) (by omega) (by omega)
    have y4 := mul_c (x := r (176 + 14 * k)) (X := 9) (y := sSm (t 4) (t 0) r k) (Y := 270000) (by omega) (by omega) (by unfold sSm; omega) (by unfold sSm; omega) (by omega)
    omega)
  have x2 := aS_b (f := fun b : Nat => sOver (t 1) sites r u b) (lo := 0) (hi := 81920) (n := (sBins rows sites).toNat) (fun k hk => by
    have := sNeed_b (sites := sites) (b := k) v.1
    have hk2 := hu k (by omega) (by omega)
    have z := mul_b hk2.1 hk2.2 (show 0 ≤ t 1 by omega) t1.2
    have z0 : 0 ≤ u k * t 1 / 100 := by omega
    unfold sOver
    split <;> omega)
  have x3 := mul_b (x := t 2) (X := 99) (y := sOvf (t 1) rows sites r u) (Y := 1310720) (by omega) (by omega) (by unfold sOvf; omega) (by unfold sOvf; omega)
  have x4 : -38880000 ≤ sSms (t 4) (t 0) r ∧ sSms (t 4) (t 0) r ≤ 38880000 := by unfold sSms; omega
  unfold sCost
  omega
def sDX (k : Int) : Int := if k = 1 then -1 else if k = 2 then 1 else 0
def sDY (k : Int) : Int := if k = 3 then -1 else if k = 4 then 1 else 0
def sCX (t : Int → Int) (sites : Int) (r : Int → Int) (c k : Int) : Int := sHX sites r c (r (36 + 7 * c + 3) + t 3 * sDX k)
def sCY (t : Int → Int) (rows : Int) (r : Int → Int) (c k : Int) : Int := sHY rows r c (r (36 + 7 * c + 4) + t 3 * sDY k)
/-- a cell stepped aside -/
def rSpK (t : Int → Int) (rows sites : Int) (r : Int → Int) (c k : Int) : Int → Int := rWant r c (sCX t sites r c k) (sCY t rows r c k)
/-- the best so far: x, y, cost -/
def sSpB (t : Int → Int) (rows sites : Int) (r u : Int → Int) (c : Int) : Nat → Int × Int × Int
  | 0 => (r (36 + 7 * c + 3), r (36 + 7 * c + 4), sCost t rows sites r u)
  | k + 1 => if (sSpB t rows sites r u c k).2.2 ≤ sCost t rows sites (rSpK t rows sites r c (k + 1)) u then sSpB t rows sites r u c k else (sCX t sites r c (k + 1), sCY t rows r c (k + 1), sCost t rows sites (rSpK t rows sites r c (k + 1)) u)
def rSpC (t : Int → Int) (rows sites : Int) (r u : Int → Int) (c : Int) : Int → Int := rWant r c (sSpB t rows sites r u c 4).1 (sSpB t rows sites r u c 4).2.1
def rSpI (t : Int → Int) (rows sites : Int) (r : Int → Int) (c : Int) : Nat → Int → Int
  | 0 => r
  | k + 1 => rSpK t rows sites r c (k + 1)
theorem rWant_want (r : Int → Int) (c x y x' y' : Int) : rWant (rWant r c x y) c x' y' = rWant r c x' y' := by
  funext j
  unfold rWant rU
  by_cases e1 : j = 36 + 7 * c + 4
  · simp [e1]
  · by_cases e2 : j = 36 + 7 * c + 3 <;> simp [e1, e2]
theorem rWant_n {r : Int → Int} {c x y j : Int} (h3 : j ≠ 36 + 7 * c + 3) (h4 : j ≠ 36 + 7 * c + 4) : rWant r c x y j = r j := by
  unfold rWant
  rw [rU_n h4, rU_n h3]
theorem rWant_x (r : Int → Int) (c x y : Int) : rWant r c x y (36 + 7 * c + 3) = x := by
  unfold rWant
  rw [rU_n (by omega), rU_s]
theorem rWant_y (r : Int → Int) (c x y : Int) : rWant r c x y (36 + 7 * c + 4) = y := by
  unfold rWant
  rw [rU_s]
theorem rWant_self (r : Int → Int) (c : Int) : rWant r c (r (36 + 7 * c + 3)) (r (36 + 7 * c + 4)) = r := by
  funext j
  unfold rWant rU
  by_cases e1 : j = 36 + 7 * c + 4
  · simp [e1]
  · by_cases e2 : j = 36 + 7 * c + 3 <;> simp [e1, e2]
theorem vOk_want {r : Int → Int} {c x y : Int} (v : vOk r) (h0 : 0 ≤ c) (h1 : c < 20) (hx : -1 ≤ x ∧ x ≤ 600) (hy : -1 ≤ y ∧ y ≤ 600) : vOk (rWant r c x y) := vOk_u (vOk_u v h0 h1 (by omega) hx) h0 h1 (by omega) hy
theorem sHX_x {sites : Int} {r : Int → Int} {c d x z : Int} (hd : d = 36 + 7 * c + 3 ∨ d = 36 + 7 * c + 4) (h0 : 0 ≤ c) (hf : r (36 + 7 * c + 1) < 3) : sHX sites (rU r d z) c x = sHX sites r c x := by
  unfold sHX sHX0
  rw [rU_n (show 36 + 7 * c + 1 ≠ d by omega), rU_n (show 36 + 7 * c ≠ d by omega), rU_n (show 24 + 4 * r (36 + 7 * c + 1) + 2 ≠ d by omega), rU_n (show 24 + 4 * r (36 + 7 * c + 1) + 3 ≠ d by omega)]
theorem sHY_x {rows : Int} {r : Int → Int} {c d y z : Int} (hd : d = 36 + 7 * c + 3 ∨ d = 36 + 7 * c + 4) (h0 : 0 ≤ c) (hf : r (36 + 7 * c + 1) < 3) : sHY rows (rU r d z) c y = sHY rows r c y := by
  unfold sHY
  rw [rU_n (show 36 + 7 * c + 1 ≠ d by omega), rU_n (show 24 + 4 * r (36 + 7 * c + 1) ≠ d by omega), rU_n (show 24 + 4 * r (36 + 7 * c + 1) + 1 ≠ d by omega)]
theorem sCX_b {t : Int → Int} {sites : Int} {r : Int → Int} {c k : Int} (v : vOk r) (s2 : 8 ≤ sites ∧ sites ≤ 32) (h0 : 0 ≤ c) (h1 : c < r 2) : 0 ≤ sCX t sites r c k ∧ sCX t sites r c k ≤ 512 := by
  have w := v.1.2.2.2.2.2 c h0 h1
  have := sHX_b (sites := sites) (r := r) (c := c) (x := r (36 + 7 * c + 3) + t 3 * sDX k) (by omega)
  unfold sCX
  omega
theorem sCY_b {t : Int → Int} {rows : Int} {r : Int → Int} {c k : Int} (s1 : 1 ≤ rows ∧ rows ≤ 8) : 0 ≤ sCY t rows r c k ∧ sCY t rows r c k ≤ 128 := by
  have := sHY_b (rows := rows) (r := r) (c := c) (y := r (36 + 7 * c + 4) + t 3 * sDY k) (by omega)
  unfold sCY
  omega
theorem sSpB_b {t : Int → Int} {rows sites : Int} {r u : Int → Int} {c : Int} (v : vOk r) (tm : tmOk t) (s1 : 1 ≤ rows ∧ rows ≤ 8) (s2 : 8 ≤ sites ∧ sites ≤ 32) (hu : ∀ b, 0 ≤ b → b < sBins rows sites → 0 ≤ u b ∧ u b ≤ 4096) (h0 : 0 ≤ c) (h1 : c < r 2) (k : Nat) : (-1 ≤ (sSpB t rows sites r u c k).1 ∧ (sSpB t rows sites r u c k).1 ≤ 600) ∧ (-1 ≤ (sSpB t rows sites r u c k).2.1 ∧ (sSpB t rows sites r u c k).2.1 ≤ 600) ∧ (-1500000000 ≤ (sSpB t rows sites r u c k).2.2 ∧ (sSpB t rows sites r u c k).2.2 ≤ 1500000000) := by
  have g2 := v.1.2.2.2.1
  induction k with
  | zero => exact ⟨v.1.1 _, v.1.1 _, sCost_b v tm s1 s2 hu⟩
  | succ k ih =>
    rw [sSpB]
    split
    · exact ih
    · have bx := sCX_b (t := t) (k := k + 1) v s2 h0 h1
      have bY := sCY_b (t := t) (r := r) (c := c) (k := k + 1) s1
      exact ⟨by dsimp only; omega, by dsimp only; omega, sCost_b (vOk_want v h0 (by omega) (by omega) (by omega)) tm s1 s2 hu⟩
section M29
variable {N : Nat} {h : ka_H} {a : Nat} {mf : Nat → Int} {ma : Nat → Int → Int}
theorem c_stepX {k : Int} (hk : -100 ≤ k ∧ k ≤ 100) : fm_X9_stepX N [.int (iI k)] h = some (iI (sDX k), h) := by
  rw [en_X9_stepX, eq_X9_stepX_0]
  simp (disch := omega) only [iI_eqD, eq_X9_stepX_19]
  unfold sDX
  by_cases q1 : k = 1 <;> by_cases q2 : k = 2 <;> simp [q1, q2]
theorem c_stepY {k : Int} (hk : -100 ≤ k ∧ k ≤ 100) : fm_X9_stepY N [.int (iI k)] h = some (iI (sDY k), h) := by
  rw [en_X9_stepY, eq_X9_stepY_0]
  simp (disch := omega) only [iI_eqD, eq_X9_stepY_19]
  unfold sDY
  by_cases q1 : k = 3 <;> by_cases q2 : k = 4 <;> simp [q1, q2]
theorem c_spreadCell {c : Int} (hN : 5000 ≤ N) (v : vOk (ma 2)) (sz : mSz mf) (tm : tmOk (ma 1)) (hu : ∀ b, 0 ≤ b → b < sBins (mf 2) (mf 3) → 0 ≤ ma 24 b ∧ ma 24 b ≤ 4096) (h0 : 0 ≤ c) (h1 : c < ma 2 2) : fm_X9_spreadCell N [.ref a, .int (iI c)] (mH h a mf ma) = some (mH h a mf (mA ma 2 (rSpC (ma 1) (mf 2) (mf 3) (ma 2) (ma 24) c))) := by
  have g2 := v.1.2.2.2.1
  have g1 := v.1.2.2.1
  have f := v.2.2.1 c h0 h1
  have t3 := tm.2.2.2.1
  rw [en_X9_spreadCell, eq_X9_spreadCell_0, c_cellAt, Option.bind_some]
  dsimp only
  rw [m_r6, Option.bind_some, iI_add, m_l6 (by omega) (by omega), Option.bind_some, Option.bind_some, iI_add, m_l6 (by omega) (by omega), Option.bind_some, if_pos m_isc, c_cost hN v.1 v.2.1 sz tm hu, Option.bind_some]
  dsimp only
  have key := fix_up (B := cm_X9_spreadCell_40 N) (R := some (mH h a mf (mA ma 2 (rSpC (ma 1) (mf 2) (mf 3) (ma 2) (ma 24) c)))) (fun i => [some (.ref a), some (.int (iI c)), some (.int (iI (36 + 7 * c))), some (.int (iI (ma 2 (36 + 7 * c + 3)))), some (.int (iI (ma 2 (36 + 7 * c + 4)))), some (.int (iI (sSpB (ma 1) (mf 2) (mf 3) (ma 2) (ma 24) c i).1)), some (.int (iI (sSpB (ma 1) (mf 2) (mf 3) (ma 2) (ma 24) c i).2.1)), some (.int (iI (sSpB (ma 1) (mf 2) (mf 3) (ma 2) (ma 24) c i).2.2)), some (.int (iI (1 + i)))]) (fun i => mH h a mf (mA ma 2 (rSpI (ma 1) (mf 2) (mf 3) (ma 2) c i))) 4 ?_ ?_ N 0 (by omega) (by omega)
  · simp only [Int.natCast_zero, Int.add_zero, rSpI, mA_self] at key
    exact key
  · intro K
    rw [eq_X9_spreadCell_40, if_pos (by decide), m_r6, Option.bind_some, iI_add, m_s6 (by omega) (by omega), Option.bind_some, mU_mA, mA_2, mA_mA, m_r6, Option.bind_some, iI_add, m_s6 (by omega) (by omega), Option.bind_some, mU_mA, mA_2, mA_mA]
    show some (mH h a mf (mA ma 2 (rWant (rSpK (ma 1) (mf 2) (mf 3) (ma 2) c (3 + 1)) c _ _))) = _
    unfold rSpK
    rw [rWant_want]
    rfl
  · intro K i hi
    have ei : 1 + ((i + 1 : Nat) : Int) = 1 + (i : Int) + 1 := by omega
    have ek : (1 : Int) + i = i + 1 := by omega
    have dx : -1 ≤ sDX (1 + i) ∧ sDX (1 + i) ≤ 1 := by unfold sDX; split <;> (try split) <;> omega
    have dy : -1 ≤ sDY (1 + i) ∧ sDY (1 + i) ≤ 1 := by unfold sDY; split <;> (try split) <;> omega
    have mx := mul_c (x := ma 1 3) (X := 64) (y := sDX (1 + i)) (Y := 1) (by omega) (by omega) (by omega) (by omega) (by omega)
    have my := mul_c (x := ma 1 3) (X := 64) (y := sDY (1 + i)) (Y := 1) (by omega) (by omega) (by omega) (by omega) (by omega)
    have bX := v.1.1 (36 + 7 * c + 3)
    have bY := v.1.1 (36 + 7 * c + 4)
    have cxb := sCX_b (t := ma 1) (k := i + 1) v sz.2 h0 h1
    have cyb := sCY_b (t := ma 1) (r := ma 2) (c := c) (k := i + 1) sz.1
    obtain ⟨rr, hrr⟩ : ∃ rr, rr = rSpI (ma 1) (mf 2) (mf 3) (ma 2) c i := ⟨_, rfl⟩
    have vr : vOk rr ∧ rr 2 = ma 2 2 ∧ (∃ x y, rr = rWant (ma 2) c x y) := by
      rw [hrr]
      cases i with
      | zero => exact ⟨v, rfl, _, _, (rWant_self (ma 2) c).symm⟩
      | succ i =>
        have cxb' := sCX_b (t := ma 1) (k := i + 1) v sz.2 h0 h1
        have cyb' := sCY_b (t := ma 1) (r := ma 2) (c := c) (k := i + 1) sz.1
        exact ⟨vOk_want v h0 (by omega) (by omega) (by omega), rWant_n (by omega) (by omega), _, _, rfl⟩
    obtain ⟨v1, v2, x', y', v3⟩ := vr
    have hX := c_heldX (N := N) (h := h) (a := a) (mf := mf) (ma := mA ma 2 rr) (c := c) (x := ma 2 (36 + 7 * c + 3) + ma 1 3 * sDX (1 + i)) (by rw [mA_2]; exact v1) sz h0 (by rw [mA_2, v2]; exact h1) (by omega)
    have eX : sHX (mf 3) rr c (ma 2 (36 + 7 * c + 3) + ma 1 3 * sDX (1 + i)) = sCX (ma 1) (mf 3) (ma 2) c (i + 1) := by
      rw [v3]
      unfold rWant
      rw [sHX_x (by omega) h0 (by rw [rU_n (by omega)]; omega), sHX_x (by omega) h0 (by omega), ek]
      rfl
    rw [mA_2, eX] at hX
    have vv : vOk (rU rr (36 + 7 * c + 3) (sCX (ma 1) (mf 3) (ma 2) c (i + 1))) := vOk_u v1 h0 (by omega) (by omega) (by omega)
    have hY := c_heldY (N := N) (h := h) (a := a) (mf := mf) (ma := mA ma 2 (rU rr (36 + 7 * c + 3) (sCX (ma 1) (mf 3) (ma 2) c (i + 1)))) (c := c) (y := ma 2 (36 + 7 * c + 4) + ma 1 3 * sDY (1 + i)) (by rw [mA_2]; exact vv) sz h0 (by rw [mA_2, rU_n (by omega), v2]; exact h1) (by omega)
    have eY : sHY (mf 2) (rU rr (36 + 7 * c + 3) (sCX (ma 1) (mf 3) (ma 2) c (i + 1))) c (ma 2 (36 + 7 * c + 4) + ma 1 3 * sDY (1 + i)) = sCY (ma 1) (mf 2) (ma 2) c (i + 1) := by
      rw [v3]
      unfold rWant
      rw [sHY_x (by omega) h0 (by rw [rU_n (by omega), rU_n (by omega)]; omega), sHY_x (by omega) h0 (by rw [rU_n (by omega)]; omega), sHY_x (by omega) h0 (by omega), ek]
      rfl
    rw [mA_2, eY] at hY
    have er : rU (rU rr (36 + 7 * c + 3) (sCX (ma 1) (mf 3) (ma 2) c (i + 1))) (36 + 7 * c + 4) (sCY (ma 1) (mf 2) (ma 2) c (i + 1)) = rSpK (ma 1) (mf 2) (mf 3) (ma 2) c (i + 1) := by
      show rWant rr c _ _ = _
      rw [v3, rWant_want]
      rfl
    have vk : vOk (rSpK (ma 1) (mf 2) (mf 3) (ma 2) c (i + 1)) := vOk_want v h0 (by omega) (by omega) (by omega)
    have hC := c_cost (N := N) (h := h) (a := a) (mf := mf) (ma := mA ma 2 (rSpK (ma 1) (mf 2) (mf 3) (ma 2) c (i + 1))) hN (by rw [mA_2]; exact vk.1) (by rw [mA_2]; exact vk.2.1) sz (by rw [mA_n (by decide)]; exact tm) (by rw [mA_n (by decide)]; exact hu)
    rw [mA_2, mA_n (by decide), mA_n (by decide)] at hC
    have bC := sCost_b (u := ma 24) vk tm sz.1 sz.2 hu
    have bL := (sSpB_b (u := ma 24) v tm sz.1 sz.2 hu h0 h1 i).2.2
    rw [eq_X9_spreadCell_40, if_neg (fun q => by have := (iI_le ⟨by omega, by omega⟩ ⟨by omega, by omega⟩).mp q; omega), ← hrr, m_r6, Option.bind_some, m_r5, Option.bind_some, m_l5 (by omega) (by omega), Option.bind_some, c_stepX (by omega), Option.bind_some, mA_n (by decide)]
    dsimp only
    rw [if_pos m_isc, iI_mul, iI_add, hX, Option.bind_some]
    dsimp only
    rw [iI_add, m_s6 (by omega) (by omega), Option.bind_some, mU_mA, mA_2, mA_mA, m_r6, Option.bind_some, m_r5, Option.bind_some, m_l5 (by omega) (by omega), Option.bind_some, c_stepY (by omega), Option.bind_some, mA_n (by decide)]
    dsimp only
    rw [if_pos m_isc, iI_mul, iI_add, hY, Option.bind_some]
    dsimp only
    rw [iI_add, m_s6 (by omega) (by omega), Option.bind_some, mU_mA, mA_2, mA_mA, er, eq_X9_spreadCell_102, if_pos m_isc, hC, Option.bind_some]
    dsimp only
    rw [sSpB, ei]
    show _ = K _ [] (mH h a mf (mA ma 2 (rSpK (ma 1) (mf 2) (mf 3) (ma 2) c (i + 1))))
    by_cases q : (sSpB (ma 1) (mf 2) (mf 3) (ma 2) (ma 24) c i).2.2 ≤ sCost (ma 1) (mf 2) (mf 3) (rSpK (ma 1) (mf 2) (mf 3) (ma 2) c (i + 1)) (ma 24)
    · rw [if_pos ((iI_le ⟨by omega, by omega⟩ ⟨by omega, by omega⟩).mpr q), if_pos q, eq_X9_spreadCell_138, iI_add]
    · rw [if_neg (fun z => q ((iI_le ⟨by omega, by omega⟩ ⟨by omega, by omega⟩).mp z)), if_neg q, m_r6, Option.bind_some, iI_add, m_l6 (by omega) (by omega), Option.bind_some, Option.bind_some, iI_add, m_l6 (by omega) (by omega), Option.bind_some, eq_X9_spreadCell_138, iI_add, mA_2]
      unfold rSpK
      rw [rWant_x, rWant_y]
end M29
