/-! ===== the component: smooth spans ===== -/
section C8
variable {N : Nat} {h : ka_H} {B : Nat} {ca : Nat → Int → Int} {cb : Value} {r : Int → Int} {s : Nat}
theorem d_meanFar {up : Bool} {E : Int} {f : Nat → Int} {n : Nat} (hN : 5000 ≤ N) (I : cI r ca s) (hn : (n : Int) < r 3) (hE : -1000000000 ≤ E ∧ E ≤ 1000000000) (hf : ∀ k : Nat, (k : Int) < r (176 + 14 * (n : Int) + 1) → sFar E (sPin r false up n k) = f k ∧ f k ≤ 60000) (hz : ∃ k, k < (r (176 + 14 * (n : Int) + 1)).toNat ∧ f k = 0) :
    fm_X2_meanFar N [.ref (B + 6), .ref (cSl B s + 25 + 3 * n), .int (iI E), .int (if up = true then iI 0 else iI 1)] (cH h B ca cb) = some (iI (sMF (ca 1 0) f (r (176 + 14 * (n : Int) + 1)).toNat), cH h B ca cb) := by
  have i := I.2.2.2.2.2.2.2
  have tm := I.2.2.2.2.2.2.1.1
  have v := i.1
  have np := (v.2.1 n (by omega) hn).1
  have o := ne_l (h := h) (B := B) (cb := cb) I hn
  have fb : ∀ k, k < (r (176 + 14 * (n : Int) + 1)).toNat → 0 ≤ f k ∧ f k ≤ 60000 := fun k hk => by
    have := hf k (by omega)
    have b := sFar_b E (sPin r false up n k)
    omega
  have nu := sMF_num (g := ca 1 0) (f := f) (n := (r (176 + 14 * (n : Int) + 1)).toNat) tm.1 (by omega) fb
  have de := sMF_den (g := ca 1 0) (f := f) (n := (r (176 + 14 * (n : Int) + 1)).toNat) tm.1 (by omega) fb hz
  rw [en_X2_meanFar, eq_X2_meanFar_0]
  refine fix_up (B := cm_X2_meanFar_9 N) (fun i => [some (.ref (B + 6)), some (.ref (cSl B s + 25 + 3 * n)), some (.int (iI E)), some (.int (if up = true then iI 0 else iI 1)), some (.int (iI (aS (fun k => f k * sSha (ca 1 0) (f k)) i))), some (.int (iI (aS (fun k => sSha (ca 1 0) (f k)) i))), some (.int (iI i))]) (fun _ => cH h B ca cb) (r (176 + 14 * (n : Int) + 1)).toNat ?_ ?_ N 0 (by omega) (by omega)
  · intro K
    rw [eq_X2_meanFar_9, o.2.2.1, Option.bind_some, if_pos ((iI_le ⟨by omega, by omega⟩ ⟨by omega, by omega⟩).mpr (by omega)), if_neg (by rw [iI_eq ⟨by omega, by omega⟩ ⟨by omega, by omega⟩]; omega), iI_dv (by omega) (by omega)]
    rfl
  · intro K j hj
    have b := sPin_b v.1.1 false up n j
    have fj := hf j (by omega)
    have fj0 := fb j hj
    have d0 : 0 ≤ f j / ca 1 0 := Int.ediv_nonneg fj0.1 (by omega)
    have d1 : f j / ca 1 0 ≤ f j := Int.ediv_le_self _ fj0.1
    have p2 := pl_r0 (h := h) (B := B) (ca := ca) (cb := cb) false
    rw [show pl B false = B + 6 from rfl] at p2
    have k40 : cm_X2_meanFar_40 N K [some (.ref (B + 6)), some (.ref (cSl B s + 25 + 3 * n)), some (.int (iI E)), some (.int (if up = true then iI 0 else iI 1)), some (.int (iI (aS (fun k => f k * sSha (ca 1 0) (f k)) j))), some (.int (iI (aS (fun k => sSha (ca 1 0) (f k)) j))), some (.int (iI j))] [.int (iI (sPin r false up n j)), .int (iI E)] (cH h B ca cb) = K [some (.ref (B + 6)), some (.ref (cSl B s + 25 + 3 * n)), some (.int (iI E)), some (.int (if up = true then iI 0 else iI 1)), some (.int (iI (aS (fun k => f k * sSha (ca 1 0) (f k)) (j + 1)))), some (.int (iI (aS (fun k => sSha (ca 1 0) (f k)) (j + 1)))), some (.int (iI ((j + 1 : Nat) : Int)))] [] (cH h B ca cb) := by
      rw [eq_X2_meanFar_40, iI_sub, d_abs (by omega), Option.bind_some, abs_far, fj.1]
      dsimp only
      rw [p2, Option.bind_some, ob_r4, Option.bind_some, tm_l (by omega) (by omega), Option.bind_some, if_neg (by rw [iI_eq ⟨by omega, by omega⟩ ⟨by omega, by omega⟩]; omega), iI_dv (by omega) (by omega)]
      have es : ∀ z, iI (sSha (ca 1 0) (f j)) = z → K [some (.ref (B + 6)), some (.ref (cSl B s + 25 + 3 * n)), some (.int (iI E)), some (.int (if up = true then iI 0 else iI 1)), some (.int (iI (aS (fun k => f k * sSha (ca 1 0) (f k)) j) + iI (f j) * z)), some (.int (iI (aS (fun k => sSha (ca 1 0) (f k)) j) + z)), some (.int (iI j + iI 1))] [] (cH h B ca cb) = K [some (.ref (B + 6)), some (.ref (cSl B s + 25 + 3 * n)), some (.int (iI E)), some (.int (if up = true then iI 0 else iI 1)), some (.int (iI (aS (fun k => f k * sSha (ca 1 0) (f k)) (j + 1)))), some (.int (iI (aS (fun k => sSha (ca 1 0) (f k)) (j + 1)))), some (.int (iI ((j + 1 : Nat) : Int)))] [] (cH h B ca cb) := by
        intro z ez
        rw [← ez, iI_mul, iI_add, iI_add, iI_add]
        rfl
      by_cases q : 13 ≤ f j / ca 1 0
      · rw [if_pos ((iI_le ⟨by omega, by omega⟩ ⟨by omega, by omega⟩).mpr q), eq_X2_meanFar_83]
        exact es _ (by unfold sSha; rw [if_neg (by omega)])
      · rw [if_neg (fun z => q ((iI_le ⟨by omega, by omega⟩ ⟨by omega, by omega⟩).mp z)), Option.bind_some, ob_r4, Option.bind_some, tm_l (by omega) (by omega), Option.bind_some, if_neg (by rw [iI_eq ⟨by omega, by omega⟩ ⟨by omega, by omega⟩]; omega), eq_X2_meanFar_83]
        refine es _ ?_
        have := (sSha_13 ⟨(f j / ca 1 0).toNat, by omega⟩).1
        dsimp only at this
        rw [show (((f j / ca 1 0).toNat : Nat) : Int) = f j / ca 1 0 by omega] at this
        rw [iI_dv (by omega) (by omega), this]
        unfold sSha
        rw [if_pos (by omega)]
    rw [eq_X2_meanFar_9, o.2.2.1, Option.bind_some, if_neg (fun z => by have := (iI_le ⟨by omega, by omega⟩ ⟨by omega, by omega⟩).mp z; omega)]
    cases up
    · rw [if_neg (c := (if false = true then iI 0 else iI 1) = iI 0) (by decide), if_pos aw_isc2]
      have := d_pinX (N := N) (h := h) (B := B) (cb := cb) (sp := false) (n := n) (k := j) I hn (by omega)
      rw [show pl B false = B + 6 from rfl] at this
      rw [this, Option.bind_some]
      exact k40
    · rw [if_pos (c := (if true = true then iI 0 else iI 1) = iI 0) (by decide), if_pos aw_isc2]
      have := d_pinY (N := N) (h := h) (B := B) (cb := cb) (sp := false) (n := n) (k := j) I hn (by omega)
      rw [show pl B false = B + 6 from rfl] at this
      rw [this, Option.bind_some]
      exact k40
theorem d_smoothN {n : Nat} (hN : 5000 ≤ N) (I : cI r ca s) (hn : (n : Int) < r 3) : fm_X2_smooth N [.ref (B + 6), .ref (cSl B s + 25 + 3 * n)] (cH h B ca cb) = some (iI (sSm (ca 1 4) (ca 1 0) r n), cH h B ca cb) := by
  have v := I.2.2.2.2.2.2.2.1
  have np := (v.2.1 n (by omega) hn).1
  have p1 := pl_isc (h := h) (B := B) (ca := ca) (cb := cb) false
  have p2 := pl_r0 (h := h) (B := B) (ca := ca) (cb := cb) false
  have a1 := d_mostX2 (h := h) (B := B) (cb := cb) (sp := false) hN I hn
  have a2 := d_leastX (h := h) (B := B) (cb := cb) (sp := false) hN I hn
  have a3 := d_mostY2 (h := h) (B := B) (cb := cb) (sp := false) hN I hn
  have a4 := d_leastY (h := h) (B := B) (cb := cb) (sp := false) hN I hn
  have hi : ∀ up : Bool, ∀ k : Nat, (k : Int) < r (176 + 14 * (n : Int) + 1) → sFar (sGr r false up n) (sPin r false up n k) = sHiF r up n k ∧ sHiF r up n k ≤ 60000 := fun up k hk => by
    have := sHiF_b (up := up) v.1.1 (n := n) (k := k) (by omega)
    refine ⟨?_, this.2⟩
    unfold sHiF at this ⊢
    unfold sFar
    split <;> omega
  have lo : ∀ up : Bool, ∀ k : Nat, (k : Int) < r (176 + 14 * (n : Int) + 1) → sFar (sLe r false up n) (sPin r false up n k) = sLoF r up n k ∧ sLoF r up n k ≤ 60000 := fun up k hk => by
    have := sLoF_b (up := up) v.1.1 (n := n) (k := k) (by omega)
    refine ⟨?_, this.2⟩
    unfold sLoF at this ⊢
    unfold sFar
    split <;> omega
  have gb := fun up => sGr_b v.1.1 false up n
  have lb := fun up => sLe_b v.1.1 false up n
  have gX := gb false
  have gY := gb true
  have lX := lb false
  have lY := lb true
  have m1 := d_meanFar (h := h) (B := B) (cb := cb) (N := N) hN I hn (by omega) (hi false) (sHiF_0 v.1.1 (by omega))
  have m2 := d_meanFar (h := h) (B := B) (cb := cb) (N := N) hN I hn (by omega) (lo false) (sLoF_0 v.1.1 (by omega))
  have m3 := d_meanFar (h := h) (B := B) (cb := cb) (N := N) hN I hn (by omega) (hi true) (sHiF_0 v.1.1 (by omega))
  have m4 := d_meanFar (h := h) (B := B) (cb := cb) (N := N) hN I hn (by omega) (lo true) (sLoF_0 v.1.1 (by omega))
  rw [if_neg (c := false = true) (by decide)] at m1 m2
  rw [if_pos (c := true = true) rfl] at m3 m4
  rw [show pl B false = B + 6 from rfl] at p1 p2 a1 a2 a3 a4
  rw [en_X2_smooth, eq_X2_smooth_0]
  simp only [p1, a1, a2, a3, a4, m1, m2, m3, m4, Option.bind_some, eq_X2_smooth_60, ↓reduceIte]
  rw [p2, Option.bind_some, ob_r4, Option.bind_some, tm_l (by omega) (by omega), Option.bind_some, iI_sub, iI_sub, iI_sub, iI_sub, iI_sub, iI_sub, iI_mul, iI_add]
  unfold sSm sSmB
  congr 3
  have e : ∀ a b c d : Int, a - b - c - d = a - b - (c + d) := fun a b c d => by omega
  rw [e, e]
theorem d_smooth (hN : 5000 ≤ N) (I : cI r ca s) : fm_X1_smooth N [.ref B] (cH h B ca cb) = some (iI (sSms (ca 1 4) (ca 1 0) r), cH h B ca cb) := by
  have v := I.2.2.2.2.2.2.2.1
  have g3 := v.1.2.2.2.2.1
  rw [en_X1_smooth, eq_X1_smooth_0]
  refine fix_up (B := cm_X1_smooth_4 N) (fun i => [some (.ref B), some (.int (iI (aS (fun n => r (176 + 14 * n) * sSm (ca 1 4) (ca 1 0) r n) i))), some (.int (iI i))]) (fun _ => cH h B ca cb) (r 3).toNat ?_ ?_ N 0 (by omega) (by omega)
  · intro K
    rw [eq_X1_smooth_4, ob_c I, Option.bind_some, ch_g5 I.1, Option.bind_some, l4 I.2.2.1 3 (by omega) (by omega), if_pos ((iI_le ⟨by omega, by omega⟩ ⟨by omega, by omega⟩).mpr (by omega))]
    rfl
  · intro K j hj
    have o := ne_l (h := h) (B := B) (cb := cb) (n := j) I (by omega)
    rw [eq_X1_smooth_4, ob_c I, Option.bind_some, ch_g5 I.1, Option.bind_some, l4 I.2.2.1 3 (by omega) (by omega), if_neg (fun z => by have := (iI_le ⟨by omega, by omega⟩ ⟨by omega, by omega⟩).mp z; omega), Option.bind_some, ch_r1 I.1, Option.bind_some, ch_net I.1 (by omega), Option.bind_some, o.2.1, Option.bind_some, ob_r12, Option.bind_some, Option.bind_some, ch_r1 I.1, Option.bind_some, ch_net I.1 (by omega), Option.bind_some, if_pos aw_isc2, d_smoothN hN I (by omega), Option.bind_some, iI_mul, iI_add, iI_add]
    rfl
end C8
