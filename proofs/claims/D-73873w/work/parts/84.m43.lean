/-! ===== the model: orders gone through ===== -/
def lg (l : List Int) (i : Nat) : Int := (l[i]?).getD 0
def lExch (l : List Int) (i j : Nat) : List Int := (l.set i (lg l j)).set j (lg l i)
theorem lExch_len (l : List Int) (i j : Nat) : (lExch l i j).length = l.length := by simp [lExch]
def lI2 (l : List Int) : Nat → Nat
  | 0 => 0
  | k + 1 => if lg l (k + 1) < lg l k then lI2 l k else k + 1
def lJ2 (l : List Int) (i : Nat) : Nat → Nat
  | 0 => 0
  | j + 1 => if lg l (j + 1) < lg l i then lJ2 l i j else j + 1
def lR2 : Nat → List Int → Nat → Nat → List Int
  | 0, l, _, _ => l
  | f + 1, l, a, b => if b ≤ a then l else lR2 f (lExch l a b) (a + 1) (b - 1)
/-- the next order; none -/
def lNext (l : List Int) : Option (List Int) := if lI2 l (l.length - 1) = 0 then none else some (lR2 l.length (lExch l (lI2 l (l.length - 1) - 1) (lJ2 l (lI2 l (l.length - 1) - 1) (l.length - 1))) (lI2 l (l.length - 1)) (l.length - 1))
def idL : Nat → List Int
  | 0 => []
  | n + 1 => idL n ++ [(n : Int)]
theorem idL_len (n : Nat) : (idL n).length = n := by
  induction n with
  | zero => rfl
  | succ n ih => simp [idL, ih]
/-- the orders behind one -/
def lPm : Nat → List Int → List (List Int)
  | 0, _ => []
  | f + 1, l => match lNext l with
    | none => []
    | some o => o :: lPm f o
def lEn : Nat → List Int → Bool
  | 0, l => (lNext l).isNone
  | f + 1, l => match lNext l with
    | none => true
    | some o => lEn f o
/-- an order of n things -/
def gdO (n : Nat) (o : List Int) : Bool := decide (o.length = n) && (o.all (fun x => decide (0 ≤ x ∧ x < n)) && (idL n).all (fun x => o.contains x))
set_option maxRecDepth 100000 in
set_option maxHeartbeats 4000000 in
theorem pm_ok : ∀ n : Fin 6, lEn 120 (idL n.val) = true ∧ gdO n.val (idL n.val) = true ∧ (lPm 120 (idL n.val)).all (gdO n.val) = true := by decide
theorem gdO_len {n : Nat} {o : List Int} (h : gdO n o = true) : o.length = n := by
  unfold gdO at h
  simp only [Bool.and_eq_true, decide_eq_true_eq] at h
  exact h.1
theorem gdO_b {n : Nat} {o : List Int} (h : gdO n o = true) {i : Nat} (hi : i < n) : 0 ≤ lg o i ∧ lg o i < n := by
  have hl := gdO_len h
  unfold gdO at h
  simp only [Bool.and_eq_true, List.all_eq_true, decide_eq_true_eq] at h
  have : lg o i = o[i] := by simp [lg, show i < o.length by omega]
  rw [this]
  exact h.2.1 _ (List.getElem_mem _)
theorem idL_mem (n : Nat) (m : Int) (h0 : 0 ≤ m) (h1 : m < n) : m ∈ idL n := by
  induction n with
  | zero => omega
  | succ n ih =>
    rw [idL, List.mem_append, List.mem_singleton]
    by_cases e : m = n
    · exact Or.inr e
    · exact Or.inl (ih (by omega))
theorem gdO_all {n : Nat} {o : List Int} (h : gdO n o = true) {m : Int} (h0 : 0 ≤ m) (h1 : m < n) : m ∈ o := by
  unfold gdO at h
  simp only [Bool.and_eq_true, List.all_eq_true, decide_eq_true_eq] at h
  have := h.2.2 m (idL_mem n m h0 h1)
  simpa using this
theorem rList_lg {l : List Int} {g : Int → Int} {i : Nat} (h : i < l.length) : rList l g i = lg l i := by
  rw [rList_at h]
  simp [lg, h]
theorem rList_set {l : List Int} {g : Int → Int} {i : Nat} (x : Int) (h : i < l.length) : rU (rList l g) i x = rList (l.set i x) g := by
  funext j
  unfold rU rList
  rw [List.length_set]
  by_cases e : j = i
  · subst e
    rw [if_pos rfl, if_pos (by omega), Int.toNat_natCast, List.getElem?_set_self h]
    rfl
  · rw [if_neg e]
    by_cases e2 : 0 ≤ j ∧ j < l.length
    · rw [if_pos e2, if_pos e2, List.getElem?_set_ne (by omega)]
    · rw [if_neg e2, if_neg e2]
section M43
variable {N : Nat} {h : ka_H} {a : Nat} {mf : Nat → Int} {ma : Nat → Int → Int}
theorem c_firstOrder {n : Nat} (hN : 5000 ≤ N) (hn : n ≤ 5) : fm_X9_firstOrder N [.ref a, .int (iI n)] (mH h a mf ma) = some (mH h a mf (mA ma 17 (rList (idL n) (ma 17)))) := by
  rw [en_X9_firstOrder, eq_X9_firstOrder_0]
  have key := fix_up (B := cm_X9_firstOrder_2 N) (R := some (mH h a mf (mA ma 17 (rList (idL n) (ma 17))))) (fun i => [some (.ref a), some (.int (iI n)), some (.int (iI i))]) (fun i => mH h a mf (mA ma 17 (rList (idL i) (ma 17)))) n ?_ ?_ N 0 (by omega) (by omega)
  · simp only [idL, rList_nil, mA_self, Int.natCast_zero] at key
    exact key
  · intro K
    rw [eq_X9_firstOrder_2, if_pos ((iI_le ⟨by omega, by omega⟩ ⟨by omega, by omega⟩).mpr (Int.le_refl _))]
  · intro K i hi
    have ei : ((i + 1 : Nat) : Int) = (i : Int) + 1 := by omega
    have ea := rList_app (idL i) (ma 17) i
    rw [idL_len] at ea
    rw [eq_X9_firstOrder_2, if_neg (fun z => by have := (iI_le ⟨by omega, by omega⟩ ⟨by omega, by omega⟩).mp z; omega), m_r27, Option.bind_some, m_s27 (by omega) (by omega), Option.bind_some, mU_mA, mA_2, mA_mA, ea, iI_add, ei]
    rfl
theorem c_keepOrder {l : List Int} {g : Int → Int} (hN : 5000 ≤ N) (hn : l.length ≤ 5) : fm_X9_keepOrder N [.ref a, .int (iI l.length)] (mH h a mf (mA ma 17 (rList l g))) = some (mH h a mf (mA (mA ma 17 (rList l g)) 18 (rList l (ma 18)))) := by
  rw [en_X9_keepOrder, eq_X9_keepOrder_0]
  have key := fix_up (B := cm_X9_keepOrder_2 N) (R := some (mH h a mf (mA (mA ma 17 (rList l g)) 18 (rList l (ma 18))))) (fun i => [some (.ref a), some (.int (iI l.length)), some (.int (iI i))]) (fun i => mH h a mf (mA (mA ma 17 (rList l g)) 18 (rList (l.take i) (ma 18)))) l.length ?_ ?_ N 0 (by omega) (by omega)
  · have e : mA (mA ma 17 (rList l g)) 18 (ma 18) = mA ma 17 (rList l g) := by
      have : ma 18 = mA ma 17 (rList l g) 18 := by rw [mA_n (by decide)]
      rw [this, mA_self]
    simp only [List.take_zero, rList_nil, Int.natCast_zero, e] at key
    exact key
  · intro K
    rw [eq_X9_keepOrder_2, if_pos ((iI_le ⟨by omega, by omega⟩ ⟨by omega, by omega⟩).mpr (Int.le_refl _)), List.take_length]
  · intro K i hi
    have ei : ((i + 1 : Nat) : Int) = (i : Int) + 1 := by omega
    have ea := rList_app (l.take i) (ma 18) l[i]
    rw [List.length_take, show min i l.length = i by omega, ← List.take_succ_eq_append_getElem hi] at ea
    rw [eq_X9_keepOrder_2, if_neg (fun z => by have := (iI_le ⟨by omega, by omega⟩ ⟨by omega, by omega⟩).mp z; omega), m_r28, Option.bind_some, m_r27, Option.bind_some, m_l27 (by omega) (by omega), Option.bind_some, mA_n (by decide), mA_2, rList_at hi, m_s28 (by omega) (by omega), Option.bind_some, mU_mA, mA_2, mA_mA, ea, iI_add, ei]
theorem c_exchange {l : List Int} {g : Int → Int} {i j : Nat} (hn : l.length ≤ 5) (hi : i < l.length) (hj : j < l.length) : fm_X9_exchange N [.ref a, .int (iI i), .int (iI j)] (mH h a mf (mA ma 17 (rList l g))) = some (mH h a mf (mA ma 17 (rList (lExch l i j) g))) := by
  rw [en_X9_exchange, eq_X9_exchange_0, m_r27, Option.bind_some, m_l27 (by omega) (by omega), Option.bind_some, Option.bind_some, Option.bind_some, m_l27 (by omega) (by omega), Option.bind_some, mA_2, rList_lg hi, rList_lg hj, m_s27 (by omega) (by omega), Option.bind_some, mU_mA, mA_2, mA_mA, rList_set _ hi, m_r27, Option.bind_some, m_s27 (by omega) (by omega), Option.bind_some, mU_mA, mA_2, mA_mA, rList_set _ (by rw [List.length_set]; exact hj)]
  rfl
theorem c_next78 {l1 : List Int} {g : Int → Int} {i j : Int} (x y : Nat) (hN : 5000 ≤ N) (hn : l1.length ≤ 5) (hx : 1 ≤ x ∧ x ≤ 5) (hy : y < l1.length) (f : Nat) (hf : y ≤ x + 2 * f) (hf2 : f ≤ 100) :
    ki_fix (cm_X9_nextOrder_78 N) N [some (.ref a), some (.int (iI l1.length)), some (.int (iI i)), some (.int (iI j)), some (.int (iI x)), some (.int (iI y))] [] (mH h a mf (mA ma 17 (rList l1 g))) = some (true, mH h a mf (mA ma 17 (rList (lR2 f l1 x y) g))) := by
  refine fix_ms (B := cm_X9_nextOrder_78 N) (fun z : Nat × List Int × Nat × Nat => [some (.ref a), some (.int (iI l1.length)), some (.int (iI i)), some (.int (iI j)), some (.int (iI z.2.2.1)), some (.int (iI z.2.2.2))]) (fun z => mH h a mf (mA ma 17 (rList z.2.1 g))) (fun z => z.2.1.length = l1.length ∧ (1 ≤ z.2.2.1 ∧ z.2.2.1 ≤ 5) ∧ z.2.2.2 < l1.length ∧ z.2.2.2 ≤ z.2.2.1 + 2 * z.1 ∧ lR2 z.1 z.2.1 z.2.2.1 z.2.2.2 = lR2 f l1 x y) (fun z => z.1) (fun z => z = some (true, mH h a mf (mA ma 17 (rList (lR2 f l1 x y) g)))) ?_ N (f, l1, x, y) ⟨rfl, hx, hy, hf, rfl⟩ ?_
  · rintro K ⟨f', l', x', y'⟩ ⟨p1, p2, p3, p4, p5⟩
    dsimp only at p1 p2 p3 p4 p5 ⊢
    by_cases q : y' ≤ x'
    · left
      have : lR2 f' l' x' y' = l' := by
        cases f' with
        | zero => rfl
        | succ f' => rw [lR2, if_pos q]
      rw [eq_X9_nextOrder_78, if_pos ((iI_le ⟨by omega, by omega⟩ ⟨by omega, by omega⟩).mpr (by omega)), ← p5, this]
    · right
      cases f' with
      | zero => omega
      | succ f' =>
        rw [lR2, if_neg q] at p5
        refine ⟨(f', lExch l' x' y', x' + 1, y' - 1), ⟨by dsimp only; rw [lExch_len, p1], by dsimp only; omega, by dsimp only; omega, by dsimp only; omega, p5⟩, by dsimp only; omega, ?_⟩
        dsimp only
        have e1 : ((x' + 1 : Nat) : Int) = (x' : Int) + 1 := by omega
        have e2 : ((y' - 1 : Nat) : Int) = (y' : Int) + -1 := by omega
        rw [eq_X9_nextOrder_78, if_neg (fun z => by have := (iI_le ⟨by omega, by omega⟩ ⟨by omega, by omega⟩).mp z; omega), if_pos m_isc, c_exchange (by omega) (by omega) (by omega), Option.bind_some, iI_add, iI_add, e1, e2]
  · dsimp only
    omega
theorem c_nextOrder {l : List Int} {g : Int → Int} (hN : 5000 ≤ N) (hn : l.length ≤ 5) (hb : ∀ i, i < l.length → -100 ≤ lg l i ∧ lg l i ≤ 100) : fm_X9_nextOrder N [.ref a, .int (iI l.length)] (mH h a mf (mA ma 17 (rList l g))) = match lNext l with
    | none => some (false, mH h a mf (mA ma 17 (rList l g)))
    | some o => some (true, mH h a mf (mA ma 17 (rList o g))) := by
  rw [en_X9_nextOrder, eq_X9_nextOrder_0, iI_sub]
  by_cases q0 : l.length = 0
  · have e : lNext l = none := by
      unfold lNext
      rw [q0]
      rfl
    rw [e, q0]
    dsimp only
    obtain ⟨n, rfl⟩ : ∃ n, N = n + 1 := ⟨N - 1, by omega⟩
    conv => lhs; rw [ki_fix_s]
    rw [eq_X9_nextOrder_4, if_pos (by decide), eq_X9_nextOrder_31, if_neg (by decide)]
  · have key := fix_ms (B := cm_X9_nextOrder_4 N) (fun k : Nat => [some (.ref a), some (.int (iI l.length)), some (.int (iI ((k : Int) - 1)))]) (fun _ => mH h a mf (mA ma 17 (rList l g))) (fun k => k ≤ l.length - 1 ∧ lI2 l k = lI2 l (l.length - 1)) (fun k => k) (fun z => z = match lNext l with
      | none => some (false, mH h a mf (mA ma 17 (rList l g)))
      | some o => some (true, mH h a mf (mA ma 17 (rList o g)))) ?_ N (l.length - 1) ⟨by omega, rfl⟩ (by omega)
    · rw [show (((l.length - 1 : Nat) : Int) - 1) = (l.length : Int) - 2 by omega] at key
      exact key
    · rintro K k ⟨p1, p2⟩
      cases k with
      | zero =>
        left
        have e : lNext l = none := by
          unfold lNext
          rw [← p2]
          rfl
        rw [e]
        dsimp only
        rw [eq_X9_nextOrder_4, if_pos ((iI_lt ⟨by omega, by omega⟩ ⟨by omega, by omega⟩).mpr (by omega)), eq_X9_nextOrder_31, if_neg (fun z => by have := (iI_le ⟨by omega, by omega⟩ ⟨by omega, by omega⟩).mp z; omega)]
      | succ k =>
        have ek : ((k + 1 : Nat) : Int) - 1 = k := by omega
        have ek2 : (k : Int) + 1 = ((k + 1 : Nat) : Int) := by omega
        have b1 := hb k (by omega)
        have b2 := hb (k + 1) (by omega)
        rw [ek, eq_X9_nextOrder_4, if_neg (fun z => by have := (iI_lt ⟨by omega, by omega⟩ ⟨by omega, by omega⟩).mp z; omega), m_r27, Option.bind_some, m_l27 (by omega) (by omega), Option.bind_some, Option.bind_some, iI_add, ek2, m_l27 (by omega) (by omega), Option.bind_some, mA_2, rList_lg (by omega), rList_lg (by omega)]
        by_cases q : lg l (k + 1) < lg l k
        · right
          refine ⟨k, ⟨by omega, ?_⟩, by omega, ?_⟩
          · rw [← p2, lI2, if_pos q]
          · rw [if_neg (fun z => by have := (iI_le ⟨by omega, by omega⟩ ⟨by omega, by omega⟩).mp z; omega), iI_add]
            rfl
        · left
          have ei : lI2 l (l.length - 1) = k + 1 := by rw [← p2, lI2, if_neg q]
          have e : lNext l = some (lR2 l.length (lExch l k (lJ2 l k (l.length - 1))) (k + 1) (l.length - 1)) := by
            unfold lNext
            rw [ei, if_neg (by omega)]
            rfl
          rw [e]
          dsimp only
          rw [if_pos ((iI_le ⟨by omega, by omega⟩ ⟨by omega, by omega⟩).mpr (by omega)), eq_X9_nextOrder_31, if_pos ((iI_le ⟨by omega, by omega⟩ ⟨by omega, by omega⟩).mpr (by omega)), iI_sub]
          have inner := fix_ms (B := cm_X9_nextOrder_41 N) (fun j : Nat => [some (.ref a), some (.int (iI l.length)), some (.int (iI k)), some (.int (iI j))]) (fun _ => mH h a mf (mA ma 17 (rList l g))) (fun j => k < j ∧ j ≤ l.length - 1 ∧ lJ2 l k j = lJ2 l k (l.length - 1)) (fun j => j) (fun z => z = some (true, mH h a mf (mA ma 17 (rList (lR2 l.length (lExch l k (lJ2 l k (l.length - 1))) (k + 1) (l.length - 1)) g)))) ?_ N (l.length - 1) ⟨by omega, by omega, rfl⟩ (by omega)
          · rw [show ((l.length - 1 : Nat) : Int) = (l.length : Int) - 1 by omega] at inner
            exact inner
          · rintro K2 j ⟨j1, j2, j3⟩
            obtain ⟨j, rfl⟩ : ∃ j', j = j' + 1 := ⟨j - 1, by omega⟩
            have b3 := hb (j + 1) (by omega)
            rw [eq_X9_nextOrder_41, m_r27, Option.bind_some, m_l27 (by omega) (by omega), Option.bind_some, Option.bind_some, m_l27 (by omega) (by omega), Option.bind_some, mA_2, rList_lg (by omega), rList_lg (by omega)]
            by_cases q2 : lg l (j + 1) < lg l k
            · right
              have jk : j ≠ k := by
                intro e2
                subst e2
                exact q q2
              refine ⟨j, ⟨by omega, by omega, by rw [← j3, lJ2, if_pos q2]⟩, by omega, ?_⟩
              rw [if_neg (fun z => by have := (iI_le ⟨by omega, by omega⟩ ⟨by omega, by omega⟩).mp z; omega), iI_add, show ((j + 1 : Nat) : Int) + -1 = j by omega]
            · left
              have ej : lJ2 l k (l.length - 1) = j + 1 := by rw [← j3, lJ2, if_neg q2]
              have c78 := c_next78 (N := N) (h := h) (a := a) (mf := mf) (ma := ma) (l1 := lExch l k (j + 1)) (g := g) (i := k) (j := ((j + 1 : Nat) : Int)) (k + 1) (l.length - 1) hN (by rw [lExch_len]; exact hn) (by omega) (by rw [lExch_len]; omega) l.length (by omega) (by omega)
              rw [lExch_len, show ((l.length - 1 : Nat) : Int) = (l.length : Int) - 1 by omega] at c78
              rw [if_pos ((iI_le ⟨by omega, by omega⟩ ⟨by omega, by omega⟩).mpr (by omega)), if_pos m_isc, c_exchange hn (by omega) (by omega), Option.bind_some, iI_add, iI_sub, ej, ek2, c78]
end M43
