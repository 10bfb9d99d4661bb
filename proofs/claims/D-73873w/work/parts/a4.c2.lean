/-! ===== the component: what is at a site ===== -/
section C2
variable {N : Nat} {h : ka_H} {B : Nat} {ca : Nat → Int → Int} {cb : Value} {r : Int → Int} {s : Nat}
theorem l4 (lv : LV r (ca (40 + s))) (j : Int) (h0 : 0 ≤ j) (h1 : j < 4) : ca (40 + s) j = r j := lv.1 j h0 h1
theorem d_isBarred {R S : Int} (hN : 5000 ≤ N) (hs : s < 14) (lv : LV r (ca (40 + s))) (ok : rOk r) (hR : -2147483648 ≤ R ∧ R < 2147483648) (hS : -2147483648 ≤ S ∧ S < 2147483648) : fm_X5_isBarred N [.ref (cSl B s), .int (iI R), .int (iI S)] (cH h B ca cb) = some (sBar r R S, cH h B ca cb) := by
  have g0 := ok.2.1
  rw [en_X5_isBarred, eq_X5_isBarred_0]
  have key := fix_aP (B := cm_X5_isBarred_2 N) (r0 := some (false, cH h B ca cb)) (r1 := some (true, cH h B ca cb)) (fun i => [some (.ref (cSl B s)), some (.int (iI R)), some (.int (iI S)), some (.int (iI i))]) (cH h B ca cb) (sBlk r R S) (r 0).toNat ?_ ?_ N 0 (by omega) (by omega) rfl
  · refine Eq.trans key ?_
    unfold sBar
    cases aP (sBlk r R S) (r 0).toNat <;> rfl
  · intro K
    rw [eq_X5_isBarred_2, ch_g6 hs, Option.bind_some, l4 lv 0 (by omega) (by omega), if_pos ((iI_le ⟨by omega, by omega⟩ ⟨by omega, by omega⟩).mpr (by omega))]
  · intro K i hi
    have o := bl_o (h := h) (B := B) (cb := cb) hs lv ok (k := i) (by omega)
    have d := d_bars (N := N) o hR hS (fun j => by have := ok.1 (4 + 5 * i + j); omega)
    rw [eq_X5_isBarred_2, ch_g6 hs, Option.bind_some, l4 lv 0 (by omega) (by omega), if_neg (fun z => by have := (iI_le ⟨by omega, by omega⟩ ⟨by omega, by omega⟩).mp z; omega), ch_r2 hs, Option.bind_some, ch_blk hs (by omega), Option.bind_some, if_pos o.1, d, Option.bind_some]
    dsimp only
    have es : sBlk r R S i = (vIn R (r (4 + 5 * (i : Int) + ((0 : Nat) : Int))) (r (4 + 5 * (i : Int) + ((1 : Nat) : Int))) && vIn S (r (4 + 5 * (i : Int) + ((2 : Nat) : Int)) - r (4 + 5 * (i : Int) + ((4 : Nat) : Int))) (r (4 + 5 * (i : Int) + ((3 : Nat) : Int)) + r (4 + 5 * (i : Int) + ((4 : Nat) : Int)))) := by
      unfold sBlk
      simp
    rw [← es, iI_add]
    by_cases q : sBlk r R S i = true
    · rw [if_neg (by rw [q]; exact tb1), if_pos q]
    · have q' : sBlk r R S i = false := by simpa using q
      rw [q', if_pos (by rfl), if_neg (by decide)]
      rfl
theorem aF_none {p : Nat → Bool} {n : Nat} (hp : ∀ j, j < n → p j = false) : aL p n = -1 := by
  rw [aL_none, aP_false]
  exact hp
theorem d_fenceAt {R S : Int} (hN : 5000 ≤ N) (hs : s < 14) (lv : LV r (ca (40 + s))) (ok : rOk r) (fd : fdOk r) (hh : ∀ k : Int, -1000 ≤ ca (40 + s) (1000 + k) ∧ ca (40 + s) (1000 + k) ≤ 1000) (hR : -2147483648 ≤ R ∧ R < 2147483648) (hS : -2147483648 ≤ S ∧ S < 2147483648) : fm_X5_fenceAt N [.ref (cSl B s), .int (iI R), .int (iI S)] (cH h B ca cb) = some (iI (sFen r R S), cH h B ca cb) := by
  have g1 := ok.2.2.1
  rw [en_X5_fenceAt, eq_X5_fenceAt_0]
  have key := fix_ms (B := cm_X5_fenceAt_2 N) (fun i : Nat => [some (.ref (cSl B s)), some (.int (iI R)), some (.int (iI S)), some (.int (iI i))]) (fun _ => cH h B ca cb) (fun i => i ≤ (r 1).toNat ∧ ∀ j, j < i → sFin r R S j = false) (fun i => (r 1).toNat - i) (fun z => z = some (iI (sFen r R S), cH h B ca cb)) ?_ N 0 ⟨by omega, fun j hj => by omega⟩ (by omega)
  · exact key
  · rintro K i ⟨p1, p2⟩
    by_cases e : i = (r 1).toNat
    · left
      have z : sFen r R S = -1 := aF_none (by rw [← e]; exact p2)
      rw [eq_X5_fenceAt_2, ch_g7 hs, Option.bind_some, l4 lv 1 (by omega) (by omega), if_pos ((iI_le ⟨by omega, by omega⟩ ⟨by omega, by omega⟩).mpr (by omega)), z]
    · have o := fe_o (h := h) (B := B) (cb := cb) hs lv ok (k := i) (by omega)
      have d := d_has (N := N) o hR hS (fun j => by
        unfold fW
        split
        · have := ok.1 (24 + 4 * i + j); omega
        · exact hh i)
      have es : (vIn R (fW r i (ca (40 + s) (1000 + (i : Int))) 0) (fW r i (ca (40 + s) (1000 + (i : Int))) 1) && vIn S (fW r i (ca (40 + s) (1000 + (i : Int))) 2) (fW r i (ca (40 + s) (1000 + (i : Int))) 3)) = sFin r R S i := by
        unfold fW sFin
        simp
      rw [es] at d
      rw [eq_X5_fenceAt_2, ch_g7 hs, Option.bind_some, l4 lv 1 (by omega) (by omega), if_neg (fun z => by have := (iI_le ⟨by omega, by omega⟩ ⟨by omega, by omega⟩).mp z; omega), ch_r3 hs, Option.bind_some, ch_fen hs (by omega), Option.bind_some, if_pos o.1, d, Option.bind_some]
      dsimp only
      by_cases q : sFin r R S i = true
      · left
        have z : sFen r R S = i := aL_uniq (by omega) q (fun j hj hp => fd R S j i (by omega) (by omega) hp q)
        rw [if_neg (by rw [q]; exact tb1), z]
      · right
        have q' : sFin r R S i = false := by simpa using q
        refine ⟨i + 1, ⟨by omega, fun j hj => ?_⟩, by omega, ?_⟩
        · by_cases ej : j = i
          · subst ej; exact q'
          · exact p2 j (by omega)
        · rw [q', if_pos (by rfl), iI_add]
          rfl
/-- a fixed cell there -/
def sFxA (r : Int → Int) (R S : Int) : Bool := aP (sThere r R S (-1) true) (r 2).toNat
theorem sFxA_iff {R S : Int} : sFxA r R S = decide (¬ sCel r R S (-1) true = -1) := by
  unfold sFxA sCel
  cases e : aP (sThere r R S (-1) true) (r 2).toNat with
  | false => rw [decide_eq_false (fun z => z (aL_none.mpr e))]
  | true =>
    rw [decide_eq_true]
    intro z
    rw [aL_none, e] at z
    cases z
theorem d_isFixedAt {R S : Int} (hN : 5000 ≤ N) (hs : s < 14) (lv : LV r (ca (40 + s))) (ok : rOk r) (fx : fxOk r) (hR : -2147483648 ≤ R ∧ R < 2147483648) (hS : -2147483648 ≤ S ∧ S < 2147483648) : fm_X5_isFixedAt N [.ref (cSl B s), .int (iI R), .int (iI S)] (cH h B ca cb) = some (sFxA r R S, cH h B ca cb) := by
  have g2 := ok.2.2.2.1
  rw [en_X5_isFixedAt, eq_X5_isFixedAt_0]
  have key := fix_aP (B := cm_X5_isFixedAt_2 N) (r0 := some (false, cH h B ca cb)) (r1 := some (true, cH h B ca cb)) (fun i => [some (.ref (cSl B s)), some (.int (iI R)), some (.int (iI S)), some (.int (iI i))]) (cH h B ca cb) (sThere r R S (-1) true) (r 2).toNat ?_ ?_ N 0 (by omega) (by omega) rfl
  · refine Eq.trans key ?_
    unfold sFxA
    cases aP (sThere r R S (-1) true) (r 2).toNat <;> rfl
  · intro K
    rw [eq_X5_isFixedAt_2, ch_g4 hs, Option.bind_some, l4 lv 2 (by omega) (by omega), if_pos ((iI_le ⟨by omega, by omega⟩ ⟨by omega, by omega⟩).mpr (by omega))]
  · intro K i hi
    have b := ok.1 (36 + 7 * i + 2)
    have f := sFix_iff (k := i) fx (by omega)
    have ne : ¬ (i : Int) = -1 := by omega
    rw [eq_X5_isFixedAt_2, ch_g4 hs, Option.bind_some, l4 lv 2 (by omega) (by omega), if_neg (fun z => by have := (iI_le ⟨by omega, by omega⟩ ⟨by omega, by omega⟩).mp z; omega), ch_r0 hs, Option.bind_some, ch_cell hs (by omega), Option.bind_some, ce_g7 hs (by omega), Option.bind_some, lc lv (by omega) 2 (by omega) (by omega)]
    unfold sThere
    rw [decide_eq_true ne, Bool.true_and, Bool.not_true, Bool.false_or]
    by_cases q1 : r (36 + 7 * i + 2) = 0
    · have q3 : sFix r i = false := by
        cases e : sFix r i with
        | false => rfl
        | true => exact absurd q1 (f.mpr e)
      rw [if_pos (by rw [q1]), q3, Bool.and_false, if_neg (by decide), eq_X5_isFixedAt_38, iI_add]
      rfl
    · rw [if_neg (by rw [iI_eq ⟨by omega, by omega⟩ ⟨by omega, by omega⟩]; exact q1), f.mp q1, Bool.and_true, Option.bind_some, ch_cell hs (by omega), Option.bind_some, if_pos (ce_isc hs (by omega)), d_lies hs lv ok (by omega) hR hS, Option.bind_some, eq_X5_isFixedAt_38, iI_add]
      dsimp only
      by_cases q2 : sCov r R S i = true
      · rw [if_neg (by rw [q2]; exact tb1), if_pos q2]
      · have q2' : sCov r R S i = false := by simpa using q2
        rw [q2', if_pos (by rfl), if_neg (by decide)]
        rfl
theorem d_isOpen {R S F : Int} (hN : 5000 ≤ N) (hs : s < 14) (lv : LV r (ca (40 + s))) (ok : rOk r) (fx : fxOk r) (fd : fdOk r) (hh : ∀ k : Int, -1000 ≤ ca (40 + s) (1000 + k) ∧ ca (40 + s) (1000 + k) ≤ 1000) (hR : -2147483648 ≤ R ∧ R < 2147483648) (hS : -2147483648 ≤ S ∧ S < 2147483648) (hF : -2147483648 ≤ F ∧ F < 2147483648) : fm_X5_isOpen N [.ref (cSl B s), .int (iI R), .int (iI S), .int (iI F)] (cH h B ca cb) = some (!sBar r R S && (decide (sCel r R S (-1) true = -1) && decide (sFen r R S = F)), cH h B ca cb) := by
  have b4 := sFen_b r R S ok.2.2.1.2
  have fa := sFxA_iff (r := r) (R := R) (S := S)
  rw [en_X5_isOpen, eq_X5_isOpen_0, if_pos (ch_isc hs), d_isBarred hN hs lv ok hR hS, Option.bind_some, eq_X5_isOpen_32, eq_X5_isOpen_33, if_pos rfl]
  dsimp only
  by_cases q1 : sBar r R S = true
  · rw [if_pos (by rw [q1]; exact tb1), q1]
    rfl
  · have q1' : sBar r R S = false := by simpa using q1
    rw [q1', if_neg (fun z => z rfl), if_pos (ch_isc hs), d_fenceAt hN hs lv ok fd hh hR hS, Option.bind_some, eq_X5_isOpen_32, eq_X5_isOpen_33, if_pos rfl]
    dsimp only
    by_cases q2 : sFen r R S = F
    · rw [if_neg (fun z => z (by rw [q2])), if_pos (ch_isc hs), d_isFixedAt hN hs lv ok fx hR hS, Option.bind_some, eq_X5_isOpen_32, eq_X5_isOpen_33, if_pos rfl, eq_X5_isOpen_33, if_neg (c := iI 1 = iI 0) (by decide), if_pos rfl, decide_eq_true q2, fa]
      dsimp only
      by_cases q3 : sCel r R S (-1) true = -1
      · simp [q3]
      · simp [q3, iI_10]
    · rw [if_pos (by rw [iI_eq ⟨by omega, by omega⟩ ⟨by omega, by omega⟩]; exact q2), decide_eq_false q2, Bool.and_false, Bool.and_false]
end C2
