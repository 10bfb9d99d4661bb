/-! ===== the component: bins laid, overflow, cost ===== -/
theorem sPin_up {rows sites : Int} {r : Int → Int} {sp up : Bool} {n k : Int} (i : rI rows sites r) (h0 : 0 ≤ n) (h1 : n < r 3) (k0 : 0 ≤ k) (k1 : k < r (176 + 14 * n + 1)) : sPin r sp up n k < 16 * (if up = true then rows else sites) := by
  have nk := (i.1.2.1 n h0 h1).2 k k0 k1
  have pn := i.2.2.2.2.2.1 n h0 h1 k k0 k1
  have xy := fun z => i.2.2.2.2.1 (sWho r n k) (nk z).1 (nk z).2
  unfold sPin sPX sPY
  by_cases q : sWho r n k < 200
  · have x := xy q
    have w := pn.2.1 q
    have e : ((sWho r n k).toNat : Int) = sWho r n k := by have := nk q; omega
    rw [if_pos q, if_pos q]
    by_cases q2 : (sp && sHas r (sWho r n k).toNat) = true
    · rw [if_pos q2, if_pos q2]
      rw [Bool.and_eq_true] at q2
      have q3 := of_decide_eq_true q2.2
      rw [e] at q3
      have := x.2.2 q3
      split <;> omega
    · rw [if_neg q2, if_neg q2]
      split <;> omega
  · have := pn.2.2 (by omega)
    rw [if_neg q, if_neg q]
    split <;> omega
theorem sLe_up {rows sites : Int} {r : Int → Int} {sp up : Bool} {n : Int} (i : rI rows sites r) (h0 : 0 ≤ n) (h1 : n < r 3) : 0 ≤ sLe r sp up n ∧ sLe r sp up n < 16 * (if up = true then rows else sites) ∧ 0 ≤ sGr r sp up n := by
  have np := (i.1.2.1 n h0 h1).1
  obtain ⟨j, h3, h4⟩ := aMn_at (f := fun k : Nat => sPin r sp up n k) (z := 100000000) (n := (r (176 + 14 * n + 1)).toNat) (by omega) (fun k _ => by have := sPin_b i.1.1.1 sp up n k; omega)
  have a := sPin_nn (sp := sp) (up := up) i h0 h1 (k := j) (by omega) (by omega)
  have b := sPin_up (sp := sp) (up := up) i h0 h1 (k := j) (by omega) (by omega)
  have c := aMx_ge (f := fun k : Nat => sPin r sp up n k) (z := -100000000) h3
  unfold sLe sGr
  omega
/-- bins in the heap -/
def bnS (h : ka_H) (B A n : Nat) (sites : Int) (u : Int → Int) : Prop := (∃ g, h.1 A = some (.inl (7, n, .inr g)) ∧ ∀ k, k < n → g k = some (A + 1 + k)) ∧ (∀ k : Nat, k < n → h.1 (A + 1 + k) = some (bC B ((k : Int) / sCols sites * 2) ((k : Int) % sCols sites * 8) (u k))) ∧ B + 1151 ≤ A
theorem bin_pc {rows sites : Int} (h0 : 1 ≤ rows ∧ rows ≤ 8) (h1 : 8 ≤ sites ∧ sites ≤ 32) {b : Int} (b0 : 0 ≤ b) (b1 : b < sBins rows sites) : (0 ≤ b / sCols sites ∧ b / sCols sites * 2 < rows) ∧ 0 ≤ b % sCols sites ∧ b % sCols sites * 8 < sites := by
  have c := sCols_b h1
  have e1 := Int.emod_nonneg b (show sCols sites ≠ 0 by omega)
  have e2 := Int.emod_lt_of_pos b (show 0 < sCols sites by omega)
  have e3 : 0 ≤ b / sCols sites := Int.ediv_nonneg b0 (by omega)
  have e4 : b / sCols sites < (rows + 1) / 2 := by
    rw [Int.ediv_lt_iff_lt_mul (by omega), Int.mul_comm]
    exact b1
  have e5 : sCols sites = (sites + 7) / 8 := rfl
  refine ⟨⟨e3, by omega⟩, e1, by omega⟩
section D1
variable {N : Nat} {h : ka_H} {B : Nat} {ca : Nat → Int → Int} {cb : Value} {r : Int → Int} {s : Nat}
theorem d_demand {q : Nat} {p c y : Int} (hN : 5000 ≤ N) (I : cI r ca s) (ho : q < B ∨ B + 1151 ≤ q) (hq : h.1 q = some (bC B (p * 2) (c * 8) y)) (hp : 0 ≤ p ∧ p * 2 < ca 30 0) (hc : 0 ≤ c ∧ c * 8 < ca 30 1) {b : Int} (eb : b / sCols (ca 30 1) = p) (ec : b % sCols (ca 30 1) = c) :
    fm_X10_demand N [.ref q] (cH h B ca cb) = some (iI (sDem (ca 30 1) r b), cH h B ca cb) := by
  have z0 := I.2.2.2.2.1
  have z1 := I.2.2.2.2.2.1
  have i := I.2.2.2.2.2.2.2
  have g3 := i.1.1.2.2.2.2.1
  rw [en_X10_demand, eq_X10_demand_0]
  refine fix_up (B := cm_X10_demand_4 N) (fun i => [some (.ref q), some (.int (iI (aS (fun n => if sMeet (ca 30 1) r b n = true then r (176 + 14 * n) else 0) i))), some (.int (iI i))]) (fun _ => cH h B ca cb) (r 3).toNat ?_ ?_ N 0 (by omega) (by omega)
  · intro K
    rw [eq_X10_demand_4, bn_r3 ho hq, Option.bind_some, ob_c I, Option.bind_some, ch_g5 I.1, Option.bind_some, l4 I.2.2.1 3 (by omega) (by omega), if_pos ((iI_le ⟨by omega, by omega⟩ ⟨by omega, by omega⟩).mpr (by omega))]
    rfl
  · intro K k hk
    have o := ne_l (h := h) (B := B) (cb := cb) (n := k) I (by omega)
    have hk' : (k : Int) < r 3 := by omega
    have bX := sLe_up (sp := true) (up := false) (n := (k : Int)) i (by omega) hk'
    have bY := sLe_up (sp := true) (up := true) (n := (k : Int)) i (by omega) hk'
    have cX := sGr_b i.1.1.1 true false k
    have cY := sGr_b i.1.1.1 true true k
    rw [if_neg (c := false = true) (by decide)] at bX
    rw [if_pos (c := true = true) rfl] at bY
    have em : sMeet (ca 30 1) r b k = (decide (sLe r true false k < 16 * (if c * 8 + 8 < ca 30 1 then c * 8 + 8 else ca 30 1)) && (decide (16 * (c * 8) ≤ sGr r true false k) && (decide (sLe r true true k < 16 * (if p * 2 + 2 < ca 30 0 then p * 2 + 2 else ca 30 0)) && decide (16 * (p * 2) ≤ sGr r true true k)))) := by
      unfold sMeet vIn
      rw [eb, ec, tdiv_nn bX.1, tdiv_nn bX.2.2, tdiv_nn bY.1, tdiv_nn bY.2.2]
      rw [← Bool.decide_and, ← Bool.decide_and, ← Bool.decide_and, ← Bool.decide_and]
      congr 1
      apply propext
      constructor
      · rintro ⟨⟨x1, x2⟩, x3, x4⟩
        refine ⟨?_, ?_, ?_, ?_⟩
        · split <;> omega
        · omega
        · split <;> omega
        · omega
      · rintro ⟨x1, x2, x3, x4⟩
        have y1 : sLe r true false k < 128 * c + 128 := by revert x1; split <;> omega
        have y3 : sLe r true true k < 32 * p + 32 := by revert x3; split <;> omega
        omega
    have es : ∀ m, sMeet (ca 30 1) r b k = m → cm_X10_demand_120 N K [some (.ref q), some (.int (iI (aS (fun n => if sMeet (ca 30 1) r b n = true then r (176 + 14 * n) else 0) k))), some (.int (iI k)), some (.ref (cSl B s + 25 + 3 * k))] [.int (if m = true then iI 1 else iI 0)] (cH h B ca cb) = K [some (.ref q), some (.int (iI (aS (fun n => if sMeet (ca 30 1) r b n = true then r (176 + 14 * n) else 0) (k + 1)))), some (.int (iI ((k + 1 : Nat) : Int)))] [] (cH h B ca cb) := by
      intro m hm
      rw [eq_X10_demand_120, eq_X10_demand_136, aS, hm]
      cases m
      · rw [if_pos (by rfl), if_neg (c := false = true) (by decide), iI_add, iI_add]
        rfl
      · rw [if_neg (by exact tb1), o.2.1, Option.bind_some, if_pos (c := true = true) rfl, eq_X10_demand_136, iI_add, iI_add]
        rfl
    have no : sMeet (ca 30 1) r b k = false → cm_X10_demand_119 N K [some (.ref q), some (.int (iI (aS (fun n => if sMeet (ca 30 1) r b n = true then r (176 + 14 * n) else 0) k))), some (.int (iI k)), some (.ref (cSl B s + 25 + 3 * k))] [] (cH h B ca cb) = K [some (.ref q), some (.int (iI (aS (fun n => if sMeet (ca 30 1) r b n = true then r (176 + 14 * n) else 0) (k + 1)))), some (.int (iI ((k + 1 : Nat) : Int)))] [] (cH h B ca cb) := by
      intro hm
      rw [eq_X10_demand_119]
      exact es false hm
    have a1 := d_mostX2 (h := h) (B := B) (cb := cb) (sp := true) hN I hk'
    have a2 := d_leastX (h := h) (B := B) (cb := cb) (sp := true) hN I hk'
    have a3 := d_mostY2 (h := h) (B := B) (cb := cb) (sp := true) hN I hk'
    have a4 := d_leastY (h := h) (B := B) (cb := cb) (sp := true) hN I hk'
    rw [show pl B true = B + 7 from rfl] at a1 a2 a3 a4
    rw [eq_X10_demand_4, bn_r3 ho hq, Option.bind_some, ob_c I, Option.bind_some, ch_g5 I.1, Option.bind_some, l4 I.2.2.1 3 (by omega) (by omega), if_neg (fun z => by have := (iI_le ⟨by omega, by omega⟩ ⟨by omega, by omega⟩).mp z; omega), Option.bind_some, ob_c I, Option.bind_some, ch_r1 I.1, Option.bind_some, ch_net I.1 (by omega), Option.bind_some, Option.bind_some, ob_r13, Option.bind_some, if_pos as_isc2, a2, Option.bind_some]
    dsimp only
    rw [if_pos (bn_isc ho hq), d_end ho hq z1 (by omega), Option.bind_some]
    dsimp only
    rw [iI_mul]
    by_cases q1 : sLe r true false k < 16 * (if c * 8 + 8 < ca 30 1 then c * 8 + 8 else ca 30 1)
    · rw [if_neg (fun z => by have := (iI_le ⟨by split <;> omega, by split <;> omega⟩ ⟨by omega, by omega⟩).mp z; omega), bn_r3 ho hq, Option.bind_some, ob_r13, Option.bind_some, if_pos as_isc2, a1, Option.bind_some]
      dsimp only
      rw [bn_g1 ho hq, Option.bind_some, iI_mul]
      by_cases q2 : sGr r true false k < 16 * (c * 8)
      · rw [if_pos ((iI_lt ⟨by omega, by omega⟩ ⟨by omega, by omega⟩).mpr q2)]
        refine no ?_
        rw [em, decide_eq_false (p := 16 * (c * 8) ≤ sGr r true false k) (by omega), Bool.false_and, Bool.and_false]
      · rw [if_neg (fun z => q2 ((iI_lt ⟨by omega, by omega⟩ ⟨by omega, by omega⟩).mp z)), bn_r3 ho hq, Option.bind_some, ob_r13, Option.bind_some, if_pos as_isc2, a4, Option.bind_some, eq_X10_demand_87]
        dsimp only
        rw [if_pos (bn_isc ho hq), d_high ho hq z0 (by omega), Option.bind_some]
        dsimp only
        rw [iI_mul]
        by_cases q3 : sLe r true true k < 16 * (if p * 2 + 2 < ca 30 0 then p * 2 + 2 else ca 30 0)
        · rw [if_neg (fun z => by have := (iI_le ⟨by split <;> omega, by split <;> omega⟩ ⟨by omega, by omega⟩).mp z; omega), bn_r3 ho hq, Option.bind_some, ob_r13, Option.bind_some, if_pos as_isc2, a3, Option.bind_some]
          dsimp only
          rw [bn_g0 ho hq, Option.bind_some, iI_mul]
          by_cases q4 : sGr r true true k < 16 * (p * 2)
          · rw [if_pos ((iI_lt ⟨by omega, by omega⟩ ⟨by omega, by omega⟩).mpr q4)]
            refine no ?_
            rw [em, decide_eq_false (p := 16 * (p * 2) ≤ sGr r true true k) (by omega), Bool.and_false, Bool.and_false, Bool.and_false]
          · rw [if_neg (fun z => q4 ((iI_lt ⟨by omega, by omega⟩ ⟨by omega, by omega⟩).mp z))]
            refine es true ?_
            rw [em, decide_eq_true q1, decide_eq_true q3, decide_eq_true (p := 16 * (p * 2) ≤ sGr r true true k) (by omega), decide_eq_true (p := 16 * (c * 8) ≤ sGr r true false k) (by omega)]
            rfl
        · rw [if_pos ((iI_le ⟨by split <;> omega, by split <;> omega⟩ ⟨by omega, by omega⟩).mpr (by omega))]
          refine no ?_
          rw [em, decide_eq_false q3, Bool.false_and, Bool.and_false, Bool.and_false]
    · rw [if_pos ((iI_le ⟨by split <;> omega, by split <;> omega⟩ ⟨by omega, by omega⟩).mpr (by omega))]
      refine no ?_
      rw [em, decide_eq_false q1, Bool.false_and]
theorem d_binColumns (z1 : 8 ≤ ca 30 1 ∧ ca 30 1 ≤ 32) : fm_X1_binColumns N [.ref B] (cH h B ca cb) = some (iI (sCols (ca 30 1)), cH h B ca cb) := by
  rw [en_X1_binColumns, eq_X1_binColumns_0, ob_g1, Option.bind_some, if_neg (by decide), iI_add, iI_sub, iI_dv (by omega) (by omega)]
  unfold sCols
  congr 4
  omega
theorem d_binMany (z0 : 1 ≤ ca 30 0 ∧ ca 30 0 ≤ 8) (z1 : 8 ≤ ca 30 1 ∧ ca 30 1 ≤ 32) : fm_X1_binMany N [.ref B] (cH h B ca cb) = some (iI (sBins (ca 30 0) (ca 30 1)), cH h B ca cb) := by
  rw [en_X1_binMany, eq_X1_binMany_0, if_pos ob_isc, d_binColumns z1, Option.bind_some]
  dsimp only
  rw [ob_g0, Option.bind_some, if_neg (by decide), iI_add, iI_sub, iI_dv (by omega) (by omega), iI_mul]
  unfold sBins
  congr 5
  omega
/-- a new cell of the heap behind the component -/
theorem cH_mk {x : ka_C} {n : Nat} (hZ : B + 1151 ≤ h.2.1) : ka_mk (cH h B ca cb) x n = cH (ka_mk h x n) B ca cb := by
  unfold ka_mk cH
  refine Prod.ext ?_ rfl
  funext p
  simp only [ka_up]
  by_cases e : p = h.2.1
  · subst e
    rw [if_pos rfl, if_neg (by omega), if_pos rfl]
  · simp only [if_neg e]
theorem d_binInit {q b : Nat} {v0 v1 v2 v3 : Value} (ho : q < B ∨ B + 1151 ≤ q) (hq : h.1 q = some (.inr (5, [v0, v1, .int (iI 0), v3]))) (z1 : 8 ≤ ca 30 1 ∧ ca 30 1 ≤ 32) (hb : b < 16) :
    fm_X10_init N [.ref q, .ref B, .int (iI (b : Int))] (cH h B ca cb) = some (cH (hU h q (bC B ((b : Int) / sCols (ca 30 1) * 2) ((b : Int) % sCols (ca 30 1) * 8) 0)) B ca cb) := by
  have c := sCols_b z1
  have pf : ∀ (z : ka_H) (w0 w1 w2 w3 : Value) (k : Nat) (v : Value), z.1 q = some (.inr (5, [w0, w1, w2, w3])) → k < 4 → ka_pf (cH z B ca cb) [5] q k v = some (cH (hU z q (.inr (5, [w0, w1, w2, w3].set k v))) B ca cb) := by
    intro z w0 w1 w2 w3 k v hz hk
    unfold ka_pf
    rw [bn_at ho hz, cH_hU ho]
    dsimp only
    rw [if_pos ⟨by rfl, by simpa using hk⟩]
    rfl
  have p3 : ka_pf (cH h B ca cb) [5] q 3 (.ref B) = some (cH (hU h q (.inr (5, [v0, v1, .int (iI 0), .ref B]))) B ca cb) := pf h _ _ _ _ 3 _ hq (by omega)
  have p0 : ∀ (z : ka_H) (x : Value), z.1 q = some (.inr (5, [v0, v1, .int (iI 0), .ref B])) → ka_pf (cH z B ca cb) [5] q 0 x = some (cH (hU z q (.inr (5, [x, v1, .int (iI 0), .ref B]))) B ca cb) := fun z x hz => pf z _ _ _ _ 0 x hz (by omega)
  have p1 : ∀ (z : ka_H) (y x : Value), z.1 q = some (.inr (5, [y, v1, .int (iI 0), .ref B])) → ka_pf (cH z B ca cb) [5] q 1 x = some (cH (hU z q (.inr (5, [y, x, .int (iI 0), .ref B]))) B ca cb) := fun z y x hz => pf z _ _ _ _ 1 x hz (by omega)
  have h0 : 0 ≤ (b : Int) / sCols (ca 30 1) := Int.ediv_nonneg (by omega) (by omega)
  rw [en_X10_init, eq_X10_init_0, p3, Option.bind_some, if_pos ob_isc, d_binColumns z1, Option.bind_some]
  dsimp only
  rw [if_neg (by rw [iI_eq ⟨by omega, by omega⟩ ⟨by omega, by omega⟩]; omega), iI_dv (by omega) (by omega), iI_mul, p0 _ _ (hU_at _ _ _), Option.bind_some, if_pos ob_isc, d_binColumns z1, Option.bind_some]
  dsimp only
  rw [if_neg (by rw [iI_eq ⟨by omega, by omega⟩ ⟨by omega, by omega⟩]; omega), iI_rm (by omega) (by omega), iI_mul, p1 _ _ _ (hU_at _ _ _), Option.bind_some, hU_U, hU_U]
  unfold bC
  rw [Int.mul_comm 2, Int.mul_comm 8]
/-! the equations that gen has not printed -/
theorem eq_lb52 {K : ka_K ka_H} {l0 A : Nat} {l1 : Int32} (e : ka_gf h [0] l0 14 = some (.ref A)) : cm_X1_laysBins_52 N K [some (.ref l0), some (.int l1)] [] h = (ka_ln h A).bind fun n => if nI n ≤ l1 then some h else (ka_la h A l1).bind fun q => if ka_isc h [5] q = true then (fm_X10_lays N [.ref q] h).bind fun x => K [some (.ref l0), some (.int (l1 + iI 1))] [] x.2 else none := by
  show (ka_gf h [0] l0 14).bind _ = _
  rw [e]
  show (ka_ln h A).bind _ = _
  congr 1
  funext n
  show (if nI n ≤ l1 then some h else (ka_gf h [0] l0 14).bind _) = _
  rw [e]
  rfl
theorem eq_lb20 {K : ka_K ka_H} {l0 A : Nat} {l1 : Int32} (e : ka_gf h [0] l0 14 = some (.ref A)) : cm_X1_laysBins_20 N K [some (.ref l0), some (.int l1)] [] h = (ka_ln h A).bind fun n => if nI n ≤ l1 then cm_X1_laysBins_50 N [some (.ref l0)] [] h else (fm_X10_init N [.ref h.2.1, .ref l0, .int l1] (ka_mk h (.inr (5, nf_X10)) nf_X10.length)).bind fun x => (ka_sa x A l1 h.2.1).bind fun y => K [some (.ref l0), some (.int (l1 + iI 1))] [] y := by
  show (ka_gf h [0] l0 14).bind _ = _
  rw [e]
  show (ka_ln h A).bind _ = _
  congr 1
  funext n
  show (if nI n ≤ l1 then cm_X1_laysBins_50 N [some (.ref l0)] [] h else (ka_gf h [0] l0 14).bind _) = _
  rw [e]
  rfl
theorem eq_lb0r {l0 A : Nat} (e : ka_gf h [0] l0 14 = some (.ref A)) : cm_X1_laysBins_0 N [some (.ref l0)] [] h = cm_X1_laysBins_50 N [some (.ref l0)] [] h := by
  show (ka_gf h [0] l0 14).bind _ = _
  rw [e]
  rfl
theorem eq_lb0n {l0 : Nat} (e : ka_gf h [0] l0 14 = some .null) : cm_X1_laysBins_0 N [some (.ref l0)] [] h = if ka_isc h [0] l0 = true then (fm_X1_binMany N [.ref l0] h).bind fun x => if x.1 < 0 ∨ 100000 < x.1.toNatClampNeg then none else (ka_pf (ka_mk x.2 (.inl (7, x.1.toNatClampNeg, .inr fun _ => none)) x.1.toNatClampNeg) [0] l0 14 (.ref x.2.2.1)).bind fun y => ki_fix (cm_X1_laysBins_20 N) N [some (.ref l0), some (.int (iI 0))] [] y else none := by
  show (ka_gf h [0] l0 14).bind _ = _
  rw [e]
  rfl
theorem eq_of4 {K : ka_K (Int32 × ka_H)} {l0 A : Nat} {l1 l2 : Int32} (e : ka_gf h [0] l0 14 = some (.ref A)) : cm_X1_overflow_4 N K [some (.ref l0), some (.int l1), some (.int l2)] [] h = (ka_ln h A).bind fun n => if nI n ≤ l2 then some (l1, h) else (ka_la h A l2).bind fun q => if ka_isc h [5] q = true then (fm_X10_over N [.ref q] h).bind fun x => K [some (.ref l0), some (.int (l1 + x.1)), some (.int (l2 + iI 1))] [] x.2 else none := by
  show (ka_gf h [0] l0 14).bind _ = _
  rw [e]
  show (ka_ln h A).bind _ = _
  congr 1
  funext n
  show (if nI n ≤ l2 then some (l1, h) else (ka_gf h [0] l0 14).bind _) = _
  rw [e]
  rfl
theorem en_lb {l0 : Nat} : fm_X1_laysBins N [.ref l0] h = cm_X1_laysBins_0 N [some (.ref l0)] [] h := rfl
end D1
