/-! ===== the component: bins ===== -/
def bC (B : Nat) (lo fi y : Int) : ka_C := .inr (5, [.int (iI lo), .int (iI fi), .int (iI y), .ref B])
def hU (h : ka_H) (q : Nat) (z : ka_C) : ka_H := (ka_up h.1 q z, h.2)
theorem hU_U (h : ka_H) (q : Nat) (z z' : ka_C) : hU (hU h q z) q z' = hU h q z' := by
  unfold hU
  refine Prod.ext ?_ rfl
  funext p
  simp only [ka_up]
  split <;> rfl
theorem aS_tail {f : Nat → Int} {m n : Nat} (hm : m ≤ n) (h : ∀ k, m ≤ k → k < n → f k = 0) : aS f n = aS f m := by
  induction n with
  | zero => rw [show m = 0 by omega]
  | succ n ih =>
    by_cases e : m = n + 1
    · rw [e]
    · rw [aS, ih (by omega) (fun k h1 h2 => h k h1 (by omega)), h n (by omega) (by omega), Int.add_zero]
section C9
variable {N : Nat} {h : ka_H} {B : Nat} {ca : Nat → Int → Int} {cb : Value} {r : Int → Int} {s : Nat}
theorem cH_hU {q : Nat} {z : ka_C} (ho : q < B ∨ B + 1151 ≤ q) : cH (hU h q z) B ca cb = hU (cH h B ca cb) q z := by
  unfold hU cH
  refine Prod.ext ?_ rfl
  funext p
  simp only [ka_up]
  by_cases e : p = q
  · subst e
    rw [if_neg (by omega), if_pos rfl, if_pos rfl]
  · simp only [if_neg e]
theorem bn_at {q : Nat} {z : ka_C} (ho : q < B ∨ B + 1151 ≤ q) (hq : h.1 q = some z) : (cH h B ca cb).1 q = some z := by
  rw [cH_o ho, hq]
theorem bn_isc {q : Nat} {lo fi y : Int} (ho : q < B ∨ B + 1151 ≤ q) (hq : h.1 q = some (bC B lo fi y)) : ka_isc (cH h B ca cb) [5] q = true := by
  unfold ka_isc
  rw [bn_at ho hq]
  rfl
theorem bn_g0 {q : Nat} {lo fi y : Int} (ho : q < B ∨ B + 1151 ≤ q) (hq : h.1 q = some (bC B lo fi y)) : ka_gi (cH h B ca cb) [5] q 0 = some (iI lo) := by
  unfold ka_gi ka_gf
  rw [bn_at ho hq]
  rfl
theorem bn_g1 {q : Nat} {lo fi y : Int} (ho : q < B ∨ B + 1151 ≤ q) (hq : h.1 q = some (bC B lo fi y)) : ka_gi (cH h B ca cb) [5] q 1 = some (iI fi) := by
  unfold ka_gi ka_gf
  rw [bn_at ho hq]
  rfl
theorem bn_g2 {q : Nat} {lo fi y : Int} (ho : q < B ∨ B + 1151 ≤ q) (hq : h.1 q = some (bC B lo fi y)) : ka_gi (cH h B ca cb) [5] q 2 = some (iI y) := by
  unfold ka_gi ka_gf
  rw [bn_at ho hq]
  rfl
theorem bn_r3 {q : Nat} {lo fi y : Int} (ho : q < B ∨ B + 1151 ≤ q) (hq : h.1 q = some (bC B lo fi y)) : ka_gr (cH h B ca cb) [5] q 3 = some B := by
  unfold ka_gr ka_gf
  rw [bn_at ho hq]
  rfl
theorem bn_p2 {q : Nat} {lo fi y x : Int} (ho : q < B ∨ B + 1151 ≤ q) (hq : h.1 q = some (bC B lo fi y)) : ka_pf (cH h B ca cb) [5] q 2 (.int (iI x)) = some (cH (hU h q (bC B lo fi x)) B ca cb) := by
  unfold ka_pf
  rw [bn_at ho hq, cH_hU ho]
  rfl
theorem hU_at (h : ka_H) (q : Nat) (z : ka_C) : (hU h q z).1 q = some z := by
  unfold hU
  exact ka_up_s _ _ _
theorem d_high {q : Nat} {lo fi y : Int} (ho : q < B ∨ B + 1151 ≤ q) (hq : h.1 q = some (bC B lo fi y)) (z0 : 1 ≤ ca 30 0 ∧ ca 30 0 ≤ 8) (hl : 0 ≤ lo ∧ lo < 100) : fm_X10_high N [.ref q] (cH h B ca cb) = some (iI (if lo + 2 < ca 30 0 then lo + 2 else ca 30 0), cH h B ca cb) := by
  rw [en_X10_high, eq_X10_high_0, bn_r3 ho hq, Option.bind_some, ob_g0, Option.bind_some, bn_g0 ho hq, Option.bind_some, iI_add, d_min (by omega) (by omega), Option.bind_some]
theorem d_end {q : Nat} {lo fi y : Int} (ho : q < B ∨ B + 1151 ≤ q) (hq : h.1 q = some (bC B lo fi y)) (z1 : 8 ≤ ca 30 1 ∧ ca 30 1 ≤ 32) (hl : 0 ≤ fi ∧ fi < 100) : fm_X10_end N [.ref q] (cH h B ca cb) = some (iI (if fi + 8 < ca 30 1 then fi + 8 else ca 30 1), cH h B ca cb) := by
  rw [en_X10_end, eq_X10_end_0, bn_r3 ho hq, Option.bind_some, ob_g1, Option.bind_some, bn_g1 ho hq, Option.bind_some, iI_add, d_min (by omega) (by omega), Option.bind_some]
theorem d_lay23 {q : Nat} {lo c y R : Int} (K10 : ka_K (Nat × ka_H)) (hN : 5000 ≤ N) (I : cI r ca s) (ho : q < B ∨ B + 1151 ≤ q) (hc : 0 ≤ c ∧ c * 8 < ca 30 1) (hR : 0 ≤ R ∧ R < ca 30 0) :
    ki_fix (cm_X10_lays_23 N K10) N [some (.ref q), some (.int (iI R)), some (.int (iI (c * 8)))] [] (cH (hU h q (bC B lo (c * 8) y)) B ca cb) = K10 [some (.ref q), some (.int (iI (R + 1)))] [] (cH (hU h q (bC B lo (c * 8) (y + aS (fun j => sSup1 (ca 30 0) (ca 30 1) r R (c * 8 + j)) 8))) B ca cb) := by
  have z0 := I.2.2.2.2.1
  have z1 := I.2.2.2.2.2.1
  have ok := I.2.2.2.2.2.2.2.1.1
  have key := fix_ms (B := cm_X10_lays_23 N K10) (fun j : Nat => [some (.ref q), some (.int (iI R)), some (.int (iI (c * 8 + j)))]) (fun j => cH (hU h q (bC B lo (c * 8) (y + aS (fun j => sSup1 (ca 30 0) (ca 30 1) r R (c * 8 + j)) j))) B ca cb) (fun j => j ≤ 8 ∧ c * 8 + j ≤ ca 30 1) (fun j => 8 - j) (fun z => z = K10 [some (.ref q), some (.int (iI (R + 1)))] [] (cH (hU h q (bC B lo (c * 8) (y + aS (fun j => sSup1 (ca 30 0) (ca 30 1) r R (c * 8 + j)) 8))) B ca cb)) ?_ N 0 ⟨by omega, by omega⟩ (by omega)
  · simp only [Int.natCast_zero, Int.add_zero, aS_0] at key
    exact key
  · rintro K j ⟨p1, p2⟩
    have at' := hU_at h q (bC B lo (c * 8) (y + aS (fun j => sSup1 (ca 30 0) (ca 30 1) r R (c * 8 + j)) j))
    have e1 : ∀ z : ka_H, z.1 q = some (bC B lo (c * 8) (y + aS (fun j => sSup1 (ca 30 0) (ca 30 1) r R (c * 8 + j)) j)) → ka_isc (cH z B ca cb) [5] q = true := fun z hz => bn_isc ho hz
    rw [eq_X10_lays_23, if_pos (bn_isc ho at'), d_end ho at' z1 (by omega), Option.bind_some]
    dsimp only
    by_cases q1 : (if c * 8 + 8 < ca 30 1 then c * 8 + 8 else ca 30 1) ≤ c * 8 + j
    · left
      rw [if_pos ((iI_le ⟨by split <;> omega, by split <;> omega⟩ ⟨by omega, by omega⟩).mpr q1), iI_add, aS_tail (f := fun j => sSup1 (ca 30 0) (ca 30 1) r R (c * 8 + j)) (m := j) (n := 8) (by omega) ?_]
      intro k k1 k2
      unfold sSup1 vIn
      rw [decide_eq_false (p := 0 ≤ c * 8 + (k : Int) ∧ c * 8 + (k : Int) ≤ ca 30 1 - 1) (by revert q1; split <;> omega), Bool.and_false, Bool.false_and, if_neg (by decide)]
    · right
      have hS : c * 8 + (j : Int) < ca 30 1 ∧ j < 8 := by revert q1; split <;> omega
      refine ⟨j + 1, ⟨by omega, by omega⟩, by omega, ?_⟩
      have fa := sFxA_iff (r := r) (R := R) (S := c * 8 + j)
      have es : ∀ x, sSup1 (ca 30 0) (ca 30 1) r R (c * 8 + j) = x → cm_X10_lays_73 N K10 K [some (.ref q), some (.int (iI R)), some (.int (iI (c * 8 + j)))] [.int (iI x), .int (iI (y + aS (fun j => sSup1 (ca 30 0) (ca 30 1) r R (c * 8 + j)) j)), .ref q] (cH (hU h q (bC B lo (c * 8) (y + aS (fun j => sSup1 (ca 30 0) (ca 30 1) r R (c * 8 + j)) j))) B ca cb) = K [some (.ref q), some (.int (iI R)), some (.int (iI (c * 8 + ((j + 1 : Nat) : Int))))] [] (cH (hU h q (bC B lo (c * 8) (y + aS (fun j => sSup1 (ca 30 0) (ca 30 1) r R (c * 8 + j)) (j + 1)))) B ca cb) := by
        intro x hx
        rw [eq_X10_lays_73, iI_add, bn_p2 ho at', Option.bind_some, hU_U, iI_add, aS, hx, ← Int.add_assoc, show c * 8 + ((j + 1 : Nat) : Int) = c * 8 + (j : Int) + 1 by omega]
      rw [if_neg (fun z => q1 ((iI_le ⟨by split <;> omega, by split <;> omega⟩ ⟨by omega, by omega⟩).mp z)), bn_g2 ho at', Option.bind_some, bn_r3 ho at', Option.bind_some, ob_c I, Option.bind_some, if_pos (ch_isc I.1), d_isBarred hN I.1 I.2.2.1 ok (by omega) (by omega), Option.bind_some]
      dsimp only
      by_cases q2 : sBar r R (c * 8 + j) = true
      · rw [if_pos (by rw [q2]; exact tb1), eq_X10_lays_66]
        refine es 0 ?_
        unfold sSup1
        rw [q2, Bool.not_true, Bool.false_and, Bool.and_false, if_neg (by decide)]
      · have q2' : sBar r R (c * 8 + j) = false := by simpa using q2
        rw [q2', if_neg (fun z => z rfl), bn_r3 ho at', Option.bind_some, ob_c I, Option.bind_some, if_pos (ch_isc I.1), d_isFixedAt hN I.1 I.2.2.1 ok I.2.2.2.2.2.2.2.2.1 (by omega) (by omega), Option.bind_some]
        dsimp only
        by_cases q3 : sCel r R (c * 8 + j) (-1) true = -1
        · rw [fa, decide_eq_false (by omega), if_pos (by rfl)]
          refine es 256 ?_
          unfold sSup1 vIn
          rw [q2', decide_eq_true q3, decide_eq_true (by omega), decide_eq_true (by omega), if_pos (by rfl)]
        · rw [fa, decide_eq_true q3, if_neg (by exact tb1), eq_X10_lays_66]
          refine es 0 ?_
          unfold sSup1
          rw [decide_eq_false q3, Bool.and_false, Bool.and_false, if_neg (by decide)]
theorem d_lays {q : Nat} {p c y : Int} (hN : 5000 ≤ N) (I : cI r ca s) (ho : q < B ∨ B + 1151 ≤ q) (hq : h.1 q = some (bC B (p * 2) (c * 8) y)) (hp : 0 ≤ p ∧ p * 2 < ca 30 0) (hc : 0 ≤ c ∧ c * 8 < ca 30 1) :
    fm_X10_lays N [.ref q] (cH h B ca cb) = some (q, cH (hU h q (bC B (p * 2) (c * 8) (aS (fun i => aS (fun j => sSup1 (ca 30 0) (ca 30 1) r (p * 2 + i) (c * 8 + j)) 8) 2))) B ca cb) := by
  have z0 := I.2.2.2.2.1
  have z1 := I.2.2.2.2.2.1
  rw [en_X10_lays, eq_X10_lays_0, bn_p2 ho hq, Option.bind_some, bn_g0 ho (hU_at _ _ _), Option.bind_some]
  have key := fix_ms (B := cm_X10_lays_10 N) (fun i : Nat => [some (.ref q), some (.int (iI (p * 2 + i)))]) (fun i => cH (hU h q (bC B (p * 2) (c * 8) (aS (fun i => aS (fun j => sSup1 (ca 30 0) (ca 30 1) r (p * 2 + i) (c * 8 + j)) 8) i))) B ca cb) (fun i => i ≤ 2 ∧ p * 2 + i ≤ ca 30 0) (fun i => 2 - i) (fun z => z = some (q, cH (hU h q (bC B (p * 2) (c * 8) (aS (fun i => aS (fun j => sSup1 (ca 30 0) (ca 30 1) r (p * 2 + i) (c * 8 + j)) 8) 2))) B ca cb)) ?_ N 0 ⟨by omega, by omega⟩ (by omega)
  · simp only [Int.natCast_zero, Int.add_zero, aS_0] at key
    exact key
  · rintro K i ⟨p1, p2⟩
    have at' := hU_at h q (bC B (p * 2) (c * 8) (aS (fun i => aS (fun j => sSup1 (ca 30 0) (ca 30 1) r (p * 2 + i) (c * 8 + j)) 8) i))
    rw [eq_X10_lays_10, if_pos (bn_isc ho at'), d_high ho at' z0 (by omega), Option.bind_some]
    dsimp only
    by_cases q1 : (if p * 2 + 2 < ca 30 0 then p * 2 + 2 else ca 30 0) ≤ p * 2 + i
    · left
      rw [if_pos ((iI_le ⟨by split <;> omega, by split <;> omega⟩ ⟨by omega, by omega⟩).mpr q1), aS_tail (f := fun i => aS (fun j => sSup1 (ca 30 0) (ca 30 1) r (p * 2 + i) (c * 8 + j)) 8) (m := i) (n := 2) (by omega) ?_]
      intro k k1 k2
      have z : ∀ j : Nat, sSup1 (ca 30 0) (ca 30 1) r (p * 2 + k) (c * 8 + j) = 0 := by
        intro j
        unfold sSup1 vIn
        rw [decide_eq_false (p := 0 ≤ p * 2 + (k : Int) ∧ p * 2 + (k : Int) ≤ ca 30 0 - 1) (by revert q1; split <;> omega), Bool.false_and, Bool.false_and, if_neg (by decide)]
      rw [aS_tail (m := 0) (n := 8) (by omega) (fun j _ _ => z j)]
      rfl
    · right
      have hS : p * 2 + (i : Int) < ca 30 0 ∧ i < 2 := by revert q1; split <;> omega
      refine ⟨i + 1, ⟨by omega, by omega⟩, by omega, ?_⟩
      rw [if_neg (fun z => q1 ((iI_le ⟨by split <;> omega, by split <;> omega⟩ ⟨by omega, by omega⟩).mp z)), bn_g1 ho at', Option.bind_some, d_lay23 K hN I ho hc (by omega), show p * 2 + ((i + 1 : Nat) : Int) = p * 2 + (i : Int) + 1 by omega]
      rfl
theorem d_common {q : Nat} {f t lo hi : Int} (h1 : -100000 ≤ f ∧ f ≤ 100000) (h2 : -100000 ≤ t ∧ t ≤ 100000) (h3 : -100000 ≤ lo ∧ lo ≤ 100000) (h4 : -100000 ≤ hi ∧ hi ≤ 100000) : fm_X10_common N [.ref q, .int (iI f), .int (iI t), .int (iI lo), .int (iI hi)] h = some (iI (if (if hi < t then hi else t) ≤ (if f < lo then lo else f) then 0 else (if hi < t then hi else t) - (if f < lo then lo else f)), h) := by
  rw [en_X10_common, eq_X10_common_0, d_min (by omega) (by omega), Option.bind_some]
  dsimp only
  rw [d_max (by omega) (by omega), Option.bind_some]
  dsimp only
  rw [iI_sub, d_max (by omega) (by constructor <;> split <;> split <;> omega), Option.bind_some]
  dsimp only
  congr 3
  by_cases q1 : hi < t <;> by_cases q2 : f < lo <;> simp only [q1, q2, ↓reduceIte] <;> split <;> split <;> omega
theorem com_eq {f n lo m hi : Int} (hm : hi = lo + m ∨ (hi ≤ lo + m ∧ f + n ≤ hi)) : (if (if hi < f + n then hi else f + n) ≤ (if f < lo then lo else f) then 0 else (if hi < f + n then hi else f + n) - (if f < lo then lo else f)) = sCom f n lo m := by
  unfold sCom
  by_cases q1 : hi < f + n <;> by_cases q2 : f < lo <;> by_cases q3 : lo + m ≤ f + n <;> by_cases q4 : f ≤ lo <;> simp only [q1, q2, q3, q4, ↓reduceIte] <;> split <;> split <;> omega
theorem d_need {q : Nat} {p c y : Int} (hN : 5000 ≤ N) (I : cI r ca s) (ho : q < B ∨ B + 1151 ≤ q) (hq : h.1 q = some (bC B (p * 2) (c * 8) y)) (hp : 0 ≤ p ∧ p * 2 < ca 30 0) (hc : 0 ≤ c ∧ c * 8 < ca 30 1) {b : Int} (eb : b / sCols (ca 30 1) = p) (ec : b % sCols (ca 30 1) = c) :
    fm_X10_need N [.ref q] (cH h B ca cb) = some (iI (sNeed (ca 30 1) r b), cH h B ca cb) := by
  have z0 := I.2.2.2.2.1
  have z1 := I.2.2.2.2.2.1
  have i := I.2.2.2.2.2.2.2
  have ok := i.1.1
  have g2 := ok.2.2.2.1
  rw [en_X10_need, eq_X10_need_0]
  refine fix_up (B := cm_X10_need_4 N) (fun i => [some (.ref q), some (.int (iI (aS (sNeed1 (ca 30 1) r b) i))), some (.int (iI i))]) (fun _ => cH h B ca cb) (r 2).toNat ?_ ?_ N 0 (by omega) (by omega)
  · intro K
    rw [eq_X10_need_4, bn_r3 ho hq, Option.bind_some, ob_c I, Option.bind_some, ch_g4 I.1, Option.bind_some, l4 I.2.2.1 2 (by omega) (by omega), if_pos ((iI_le ⟨by omega, by omega⟩ ⟨by omega, by omega⟩).mpr (by omega))]
    rfl
  · intro K k hk
    have xy := i.2.2.2.2.1 k (by omega) (by omega)
    have w := ok.2.2.2.2.2 k (by omega) (by omega)
    have f := sFix_iff (k := k) i.2.1 (by omega)
    have bf := ok.1 (36 + 7 * k + 2)
    have b0 := ok.1 (36 + 7 * k)
    have lv := I.2.2.1
    have hk' : (k : Int) < r 2 := by omega
    have es : ∀ x, sNeed1 (ca 30 1) r b k = x → K [some (.ref q), some (.int (iI (aS (sNeed1 (ca 30 1) r b) k + x))), some (.int (iI ((k : Int) + 1)))] [] (cH h B ca cb) = K [some (.ref q), some (.int (iI (aS (sNeed1 (ca 30 1) r b) (k + 1)))), some (.int (iI ((k + 1 : Nat) : Int)))] [] (cH h B ca cb) := by
      intro x hx
      rw [aS, hx]
      rfl
    rw [eq_X10_need_4, bn_r3 ho hq, Option.bind_some, ob_c I, Option.bind_some, ch_g4 I.1, Option.bind_some, l4 I.2.2.1 2 (by omega) (by omega), if_neg (fun z => by have := (iI_le ⟨by omega, by omega⟩ ⟨by omega, by omega⟩).mp z; omega), Option.bind_some, ob_c I, Option.bind_some, ch_r0 I.1, Option.bind_some, ch_cell I.1 (by omega), Option.bind_some, ce_g7 I.1 (by omega), Option.bind_some, lc lv hk' 2 (by omega) (by omega)]
    by_cases q1 : r (36 + 7 * k + 2) = 0
    · have q2 : sFix r k = false := by
        cases e : sFix r k with
        | false => rfl
        | true => exact absurd q1 (f.mpr e)
      have cx := com_eq (f := r (36 + 7 * (k : Int) + 3)) (n := 16 * r (36 + 7 * (k : Int))) (lo := 16 * (c * 8)) (m := 128) (hi := 16 * (if c * 8 + 8 < ca 30 1 then c * 8 + 8 else ca 30 1)) (by split <;> omega)
      have cy := com_eq (f := r (36 + 7 * (k : Int) + 4)) (n := 16) (lo := 16 * (p * 2)) (m := 32) (hi := 16 * (if p * 2 + 2 < ca 30 0 then p * 2 + 2 else ca 30 0)) (by split <;> omega)
      rw [if_neg (fun z => z (by rw [q1])), ce_g3 I.1 (by omega), Option.bind_some, Option.bind_some, ce_g1 I.1 (by omega), Option.bind_some, bn_g1 ho hq, Option.bind_some, if_pos (bn_isc ho hq), d_end ho hq z1 (by omega), Option.bind_some]
      dsimp only
      rw [if_pos (bn_isc ho hq), lc lv hk' 3 (by omega) (by omega), lc0 lv hk', iI_mul, iI_mul, iI_mul, iI_add, d_common (by omega) (by omega) (by omega) (by split <;> omega), Option.bind_some, cx]
      dsimp only
      rw [ce_g4 I.1 (by omega), Option.bind_some, lc lv hk' 4 (by omega) (by omega), eq_X10_need_79, ce_g4 I.1 (by omega), Option.bind_some, lc lv hk' 4 (by omega) (by omega), bn_g0 ho hq, Option.bind_some, if_pos (bn_isc ho hq), d_high ho hq z0 (by omega), Option.bind_some]
      dsimp only
      rw [if_pos (bn_isc ho hq), iI_mul, iI_mul, iI_add, d_common (by omega) (by omega) (by omega) (by split <;> omega), Option.bind_some, cy, eq_X10_need_105]
      dsimp only
      rw [iI_mul, iI_add, iI_add]
      refine es _ ?_
      unfold sNeed1
      rw [if_neg (by rw [q2]; decide), eb, ec, show 128 * c = 16 * (c * 8) by omega, show 32 * p = 16 * (p * 2) by omega]
    · rw [if_pos (by rw [iI_eq ⟨by omega, by omega⟩ ⟨by omega, by omega⟩]; exact q1), eq_X10_need_105, iI_add]
      have := es 0 (by unfold sNeed1; rw [if_pos (f.mp q1)])
      rw [Int.add_zero] at this
      exact this
theorem d_over {q : Nat} {p c : Int} {u : Int → Int} {b : Int} (hN : 5000 ≤ N) (I : cI r ca s) (ho : q < B ∨ B + 1151 ≤ q) (hq : h.1 q = some (bC B (p * 2) (c * 8) (u b))) (hp : 0 ≤ p ∧ p * 2 < ca 30 0) (hc : 0 ≤ c ∧ c * 8 < ca 30 1) (eb : b / sCols (ca 30 1) = p) (ec : b % sCols (ca 30 1) = c) (hu : 0 ≤ u b ∧ u b ≤ 4096) :
    fm_X10_over N [.ref q] (cH h B ca cb) = some (iI (sOver (ca 1 1) (ca 30 1) r u b), cH h B ca cb) := by
  have t := I.2.2.2.2.2.2.1.2.1
  have nb := sNeed_b (sites := ca 30 1) (b := b) I.2.2.2.2.2.2.2.1.1
  have m := mul_b hu.1 hu.2 (show 0 ≤ ca 1 1 by omega) t.2
  rw [en_X10_over, eq_X10_over_0, if_pos (bn_isc ho hq), d_need hN I ho hq hp hc eb ec, Option.bind_some]
  dsimp only
  rw [bn_g2 ho hq, Option.bind_some, bn_r3 ho hq, Option.bind_some, ob_r4, Option.bind_some, tm_l (by omega) (by omega), Option.bind_some, if_neg (c := iI 100 = iI 0) (by decide), iI_mul, iI_dv (by omega) (by omega), iI_sub, d_max (by omega) (by omega), Option.bind_some]
  dsimp only
  congr 3
  unfold sOver
  split <;> split <;> omega
end C9
