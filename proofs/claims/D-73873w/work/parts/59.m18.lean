/-! ===== the model: least and greatest ===== -/
def aMn (f : Nat → Int) (z : Int) : Nat → Int
  | 0 => z
  | n + 1 => if aMn f z n ≤ f n then aMn f z n else f n
def aMx (f : Nat → Int) (z : Int) : Nat → Int
  | 0 => z
  | n + 1 => if f n ≤ aMx f z n then aMx f z n else f n
theorem aMn_b {f : Nat → Int} {z lo hi : Int} {n : Nat} (hz : lo ≤ z ∧ z ≤ hi) (hf : ∀ k, k < n → lo ≤ f k ∧ f k ≤ hi) : lo ≤ aMn f z n ∧ aMn f z n ≤ hi := by
  induction n with
  | zero => exact hz
  | succ n ih =>
    have h1 := ih (fun k hk => hf k (by omega))
    have h2 := hf n (by omega)
    rw [aMn]
    split <;> omega
theorem aMx_b {f : Nat → Int} {z lo hi : Int} {n : Nat} (hz : lo ≤ z ∧ z ≤ hi) (hf : ∀ k, k < n → lo ≤ f k ∧ f k ≤ hi) : lo ≤ aMx f z n ∧ aMx f z n ≤ hi := by
  induction n with
  | zero => exact hz
  | succ n ih =>
    have h1 := ih (fun k hk => hf k (by omega))
    have h2 := hf n (by omega)
    rw [aMx]
    split <;> omega
section M18
variable {N : Nat} {h : ka_H} {a : Nat} {mf : Nat → Int} {ma : Nat → Int → Int}
theorem sPin_b {r : Int → Int} (hB : rB r) (sp up : Bool) (n k : Int) : -30000 ≤ sPin r sp up n k ∧ sPin r sp up n k ≤ 30000 := by
  have b1 := hB (176 + 14 * n + 2 + 2 * k)
  have b2 := hB (176 + 14 * n + 2 + 2 * k + 1)
  have b3 := hB (36 + 7 * sWho r n k + 3)
  have b4 := hB (36 + 7 * sWho r n k + 4)
  have b5 := hB (36 + 7 * sWho r n k + 5)
  have b6 := hB (36 + 7 * sWho r n k + 6)
  unfold sPin sPX sPY
  unfold sWhr
  have e : sWho r n k = r (176 + 14 * n + 2 + 2 * k) := rfl
  repeat' split
  all_goals omega
theorem c_leastOf {n : Int} {sp up : Bool} (hN : 5000 ≤ N) (hB : rB (ma 2)) (h0 : 0 ≤ n) (h1 : n < 16) (hp : 0 ≤ ma 2 (176 + 14 * n + 1) ∧ ma 2 (176 + 14 * n + 1) ≤ 6) (hw : ∀ k : Int, 0 ≤ k → k < ma 2 (176 + 14 * n + 1) → sWho (ma 2) n k < 200 → 0 ≤ sWho (ma 2) n k ∧ sWho (ma 2) n k < 20) : fm_X9_leastOf N [.ref a, .int (iI n), .int (if sp = true then iI 1 else iI 0), .int (if up = true then iI 1 else iI 0)] (mH h a mf ma) = some (iI (aMn (fun k => sPin (ma 2) sp up n k) (100000000) (ma 2 (176 + 14 * n + 1)).toNat), mH h a mf ma) := by
  rw [en_X9_leastOf, eq_X9_leastOf_0]
  obtain ⟨e, he⟩ : ∃ e : Nat, ma 2 (176 + 14 * n + 1) = e := ⟨(ma 2 (176 + 14 * n + 1)).toNat, by omega⟩
  have cm := c_pinMany (N := N) (h := h) (a := a) (mf := mf) (ma := ma) h0 h1
  refine fix_up (B := cm_X9_leastOf_7 N) (fun i => [some (.ref a), some (.int (iI n)), some (.int (if sp = true then iI 1 else iI 0)), some (.int (if up = true then iI 1 else iI 0)), some (.int (iI (aMn (fun k => sPin (ma 2) sp up n k) (100000000) i))), some (.int (iI i))]) (fun _ => mH h a mf ma) e ?_ ?_ N 0 (by omega) (by omega)
  · intro K
    rw [eq_X9_leastOf_7, if_pos m_isc, cm, Option.bind_some, he, if_pos ((iI_le ⟨by omega, by omega⟩ ⟨by omega, by omega⟩).mpr (Int.le_refl _)), Int.toNat_natCast]
  · intro K i hi
    have cp := c_pinIs (N := N) (h := h) (a := a) (mf := mf) (ma := ma) (n := n) (k := i) (sp := sp) (up := up) hB h0 h1 (by omega) (by omega) (hw i (by omega) (by omega))
    have b1 := sPin_b hB sp up n i
    have b2 := aMn_b (f := fun k : Nat => sPin (ma 2) sp up n k) (z := 100000000) (lo := -100000000) (hi := 100000000) (n := i) (by omega) (fun k _ => by have := sPin_b hB sp up n k; omega)
    have ei : ((i + 1 : Nat) : Int) = (i : Int) + 1 := by omega
    rw [eq_X9_leastOf_7, if_pos m_isc, cm, Option.bind_some, he, if_neg (fun z => absurd ((iI_le ⟨by omega, by omega⟩ ⟨by omega, by omega⟩).mp z) (by omega)), if_pos m_isc, cp, Option.bind_some]
    simp (disch := omega) only [iI_leD, eq_X9_leastOf_42, iI_add, aMn, ei]
    by_cases q : aMn (fun k => sPin (ma 2) sp up n k) (100000000) i ≤ sPin (ma 2) sp up n i <;> simp [q]
theorem c_greatestOf {n : Int} {sp up : Bool} (hN : 5000 ≤ N) (hB : rB (ma 2)) (h0 : 0 ≤ n) (h1 : n < 16) (hp : 0 ≤ ma 2 (176 + 14 * n + 1) ∧ ma 2 (176 + 14 * n + 1) ≤ 6) (hw : ∀ k : Int, 0 ≤ k → k < ma 2 (176 + 14 * n + 1) → sWho (ma 2) n k < 200 → 0 ≤ sWho (ma 2) n k ∧ sWho (ma 2) n k < 20) : fm_X9_greatestOf N [.ref a, .int (iI n), .int (if sp = true then iI 1 else iI 0), .int (if up = true then iI 1 else iI 0)] (mH h a mf ma) = some (iI (aMx (fun k => sPin (ma 2) sp up n k) (-100000000) (ma 2 (176 + 14 * n + 1)).toNat), mH h a mf ma) := by
  rw [en_X9_greatestOf, eq_X9_greatestOf_0]
  obtain ⟨e, he⟩ : ∃ e : Nat, ma 2 (176 + 14 * n + 1) = e := ⟨(ma 2 (176 + 14 * n + 1)).toNat, by omega⟩
  have cm := c_pinMany (N := N) (h := h) (a := a) (mf := mf) (ma := ma) h0 h1
  refine fix_up (B := cm_X9_greatestOf_7 N) (fun i => [some (.ref a), some (.int (iI n)), some (.int (if sp = true then iI 1 else iI 0)), some (.int (if up = true then iI 1 else iI 0)), some (.int (iI (aMx (fun k => sPin (ma 2) sp up n k) (-100000000) i))), some (.int (iI i))]) (fun _ => mH h a mf ma) e ?_ ?_ N 0 (by omega) (by omega)
  · intro K
    rw [eq_X9_greatestOf_7, if_pos m_isc, cm, Option.bind_some, he, if_pos ((iI_le ⟨by omega, by omega⟩ ⟨by omega, by omega⟩).mpr (Int.le_refl _)), Int.toNat_natCast]
  · intro K i hi
    have cp := c_pinIs (N := N) (h := h) (a := a) (mf := mf) (ma := ma) (n := n) (k := i) (sp := sp) (up := up) hB h0 h1 (by omega) (by omega) (hw i (by omega) (by omega))
    have b1 := sPin_b hB sp up n i
    have b2 := aMx_b (f := fun k : Nat => sPin (ma 2) sp up n k) (z := -100000000) (lo := -100000000) (hi := 100000000) (n := i) (by omega) (fun k _ => by have := sPin_b hB sp up n k; omega)
    have ei : ((i + 1 : Nat) : Int) = (i : Int) + 1 := by omega
    rw [eq_X9_greatestOf_7, if_pos m_isc, cm, Option.bind_some, he, if_neg (fun z => absurd ((iI_le ⟨by omega, by omega⟩ ⟨by omega, by omega⟩).mp z) (by omega)), if_pos m_isc, cp, Option.bind_some]
    simp (disch := omega) only [iI_leD, eq_X9_greatestOf_42, iI_add, aMx, ei]
    by_cases q : sPin (ma 2) sp up n i ≤ aMx (fun k => sPin (ma 2) sp up n k) (-100000000) i <;> simp [q]
end M18
