/-! ===== the model: the queue ===== -/
/-- an array begins with a list -/
def rIs (A : Int → Int) (l : List Int) : Prop := ∀ j : Nat, (hj : j < l.length) → A j = l[j]
theorem rIs_list (l : List Int) (g : Int → Int) : rIs (rList l g) l := fun _ hj => rList_at hj
/-- where one comes in, from the right -/
def sIns (r : Int → Int) (l : List Int) (c : Int) : Nat → Nat
  | 0 => 0
  | k + 1 => if sAhd r c ((l[k]?).getD 0) = true then sIns r l c k else k + 1
theorem sIns_le (r : Int → Int) (l : List Int) (c : Int) (k : Nat) : sIns r l c k ≤ k := by
  induction k with
  | zero => simp [sIns]
  | succ k ih =>
    rw [sIns]
    split <;> omega
/-- loose cells by their wants -/
def lQ (r : Int → Int) : Nat → List Int
  | 0 => []
  | c + 1 => if sFix r c = true then lQ r c else (lQ r c).insertIdx (sIns r (lQ r c) c (lQ r c).length) c
theorem lQ_len (r : Int → Int) (n : Nat) : (lQ r n).length ≤ n := by
  induction n with
  | zero => simp [lQ]
  | succ n ih =>
    rw [lQ]
    split
    · omega
    · rw [List.length_insertIdx]
      split <;> omega
theorem lQ_mem (r : Int → Int) (n : Nat) : ∀ c, c ∈ lQ r n → 0 ≤ c ∧ c < n ∧ sFix r c.toNat = false := by
  induction n with
  | zero => simp [lQ]
  | succ n ih =>
    intro c hc
    rw [lQ] at hc
    split at hc
    · have := ih c hc
      exact ⟨this.1, by omega, this.2.2⟩
    · next q =>
      rw [List.mem_insertIdx (sIns_le _ _ _ _)] at hc
      rcases hc with hc | hc
      · subst hc
        exact ⟨by omega, by omega, by simpa using q⟩
      · have := ih c hc
        exact ⟨this.1, by omega, this.2.2⟩
section M35
variable {N : Nat} {h : ka_H} {a : Nat} {mf : Nat → Int} {ma : Nat → Int → Int}
theorem c_queue30 {c : Nat} (K7 : ka_K ka_H) (l : List Int) (A0 : Int → Int) (hN : 5000 ≤ N) (ok : rOk (ma 2)) (hc : c < 20) (hl : ∀ o, o ∈ l → 0 ≤ o ∧ o < 20) (hn : l.length < 20) (hA : rIs A0 l) (h22 : mf 22 = l.length) :
    ∃ A, rIs A (l.insertIdx (sIns (ma 2) l c l.length) c) ∧ ki_fix (cm_X9_layQueue_30 N K7) N [some (.ref a), some (.int (iI c)), some (.int (iI l.length))] [] (mH h a mf (mA ma 13 A0)) = K7 [some (.ref a), some (.int (iI ((c : Int) + 1)))] [] (mH h a (mF mf 22 (l.length + 1)) (mA ma 13 A)) := by
  refine fix_ms (B := cm_X9_layQueue_30 N K7) (fun x : Nat × (Int → Int) => [some (.ref a), some (.int (iI c)), some (.int (iI x.1))]) (fun x => mH h a mf (mA ma 13 x.2)) (fun x => x.1 ≤ l.length ∧ sIns (ma 2) l c x.1 = sIns (ma 2) l c l.length ∧ (∀ j : Nat, (hj : j < l.length) → j < x.1 → x.2 j = l[j]) ∧ (∀ j : Nat, (hj : j < l.length) → x.1 ≤ j → x.2 ((j : Int) + 1) = l[j])) (fun x => x.1) (fun x => ∃ A, rIs A (l.insertIdx (sIns (ma 2) l c l.length) c) ∧ x = K7 [some (.ref a), some (.int (iI ((c : Int) + 1)))] [] (mH h a (mF mf 22 (l.length + 1)) (mA ma 13 A))) ?_ N (l.length, A0) ⟨by dsimp only; omega, rfl, fun j hj _ => hA j hj, fun j hj hj2 => by dsimp only at hj2; omega⟩ (by dsimp only; omega)
  rintro K ⟨k, A⟩ ⟨p1, p2, p3, p4⟩
  dsimp only at p1 p2 p3 p4 ⊢
  have done : sIns (ma 2) l c k = k → ∃ A', rIs A' (l.insertIdx (sIns (ma 2) l c l.length) c) ∧ cm_X9_layQueue_70 N K7 [some (.ref a), some (.int (iI c)), some (.int (iI k))] [] (mH h a mf (mA ma 13 A)) = K7 [some (.ref a), some (.int (iI ((c : Int) + 1)))] [] (mH h a (mF mf 22 (l.length + 1)) (mA ma 13 A')) := by
    intro e
    refine ⟨rU A k c, ?_, ?_⟩
    · rw [← p2, e]
      intro j hj
      rw [List.length_insertIdx, if_pos p1] at hj
      rcases Nat.lt_trichotomy j k with z | z | z
      · rw [rU_n (by omega), List.getElem_insertIdx_of_lt z]
        exact p3 j (by omega) z
      · subst z
        rw [rU_s, List.getElem_insertIdx_self]
      · rw [rU_n (by omega), List.getElem_insertIdx_of_gt z]
        have := p4 (j - 1) (by omega) (by omega)
        rw [← this]
        congr 1
        omega
    · rw [eq_X9_layQueue_70, m_r21, Option.bind_some, m_s21 (by omega) (by omega), Option.bind_some, mU_mA, mA_2, mA_mA, m_g22, Option.bind_some, h22, iI_add, m_p22, Option.bind_some, eq_X9_layQueue_87, iI_add]
  cases k with
  | zero =>
    left
    obtain ⟨A', x1, x2⟩ := done rfl
    refine ⟨A', x1, ?_⟩
    rw [← x2, eq_X9_layQueue_30, if_pos (by decide)]
  | succ k =>
    have e1 : ((k + 1 : Nat) : Int) - 1 = k := by omega
    have lk := p3 k (by omega) (by omega)
    have bk := hl l[k] (List.getElem_mem (by omega))
    have ca := c_isAhead (N := N) (h := h) (a := a) (mf := mf) (ma := mA ma 13 A) (c := c) (o := l[k]) (by rw [mA_n (by decide)]; exact ok) (by omega) bk
    rw [mA_n (by decide)] at ca
    have eg : (l[k]?).getD 0 = l[k] := by simp [show k < l.length by omega]
    rw [eq_X9_layQueue_30, if_neg (fun z => by have := (iI_le ⟨by omega, by omega⟩ ⟨by omega, by omega⟩).mp z; omega), m_r21, Option.bind_some, iI_sub, e1, m_l21 (by omega) (by omega), Option.bind_some, mA_2, lk, if_pos m_isc, ca, Option.bind_some]
    dsimp only
    by_cases q : sAhd (ma 2) c l[k] = true
    · right
      refine ⟨(k, rU A ((k + 1 : Nat) : Int) l[k]), ⟨by dsimp only; omega, ?_, ?_, ?_⟩, by dsimp only; omega, ?_⟩
      · dsimp only
        rw [← p2, sIns, eg, if_pos q]
      · intro j hj hj2
        dsimp only at hj2 ⊢
        rw [rU_n (by omega)]
        exact p3 j hj (by omega)
      · intro j hj hj2
        dsimp only at hj2 ⊢
        by_cases e : j = k
        · subst e
          rw [show (j : Int) + 1 = ((j + 1 : Nat) : Int) by omega, rU_s]
        · rw [rU_n (by omega)]
          exact p4 j hj (by omega)
      · rw [if_neg (by rw [q]; exact tb1), m_r21, Option.bind_some, Option.bind_some, m_l21 (by omega) (by omega), Option.bind_some, mA_2, lk, m_s21 (by omega) (by omega), Option.bind_some, mU_mA, mA_2, mA_mA, iI_add]
        dsimp only
        rw [show ((k + 1 : Nat) : Int) + -1 = k by omega]
    · left
      obtain ⟨A', x1, x2⟩ := done (by rw [sIns, eg, if_neg q])
      refine ⟨A', x1, ?_⟩
      rw [← x2, if_pos (by simp [q])]
theorem c_layQueue (hN : 5000 ≤ N) (ok : rOk (ma 2)) : ∃ A, rIs A (lQ (ma 2) (ma 2 2).toNat) ∧ fm_X9_layQueue N [.ref a] (mH h a mf ma) = some (mH h a (mF mf 22 (lQ (ma 2) (ma 2 2).toNat).length) (mA ma 13 A)) := by
  have g2 := ok.2.2.2.1
  rw [en_X9_layQueue, eq_X9_layQueue_0, m_p22, Option.bind_some]
  have key := fix_ms (B := cm_X9_layQueue_7 N) (fun x : Nat × (Int → Int) => [some (.ref a), some (.int (iI x.1))]) (fun x => mH h a (mF mf 22 (lQ (ma 2) x.1).length) (mA ma 13 x.2)) (fun x => x.1 ≤ (ma 2 2).toNat ∧ rIs x.2 (lQ (ma 2) x.1)) (fun x => (ma 2 2).toNat - x.1) (fun x => ∃ A, rIs A (lQ (ma 2) (ma 2 2).toNat) ∧ x = some (mH h a (mF mf 22 (lQ (ma 2) (ma 2 2).toNat).length) (mA ma 13 A))) ?_ N (0, ma 13) ⟨by dsimp only; omega, fun j hj => by simp [lQ] at hj⟩ (by dsimp only; omega)
  · simp only [lQ, List.length_nil, mA_self, Int.natCast_zero] at key
    exact key
  · rintro K ⟨c, A⟩ ⟨p1, p2⟩
    dsimp only at p1 p2 ⊢
    by_cases e : c = (ma 2 2).toNat
    · left
      refine ⟨A, by rw [← e]; exact p2, ?_⟩
      rw [eq_X9_layQueue_7, m_r6, Option.bind_some, m_l6 (by omega) (by omega), Option.bind_some, mA_n (by decide), if_pos ((iI_le ⟨by omega, by omega⟩ ⟨by omega, by omega⟩).mpr (by omega)), e]
    · right
      have ll := lQ_len (ma 2) c
      have ei : ((c + 1 : Nat) : Int) = (c : Int) + 1 := by omega
      have cf := c_isFixed (N := N) (h := h) (a := a) (mf := mF mf 22 (lQ (ma 2) c).length) (ma := mA ma 13 A) (c := c) (by omega) (by rw [mA_n (by decide)]; exact ok.1)
      rw [mA_n (by decide)] at cf
      by_cases q : sFix (ma 2) c = true
      · refine ⟨(c + 1, A), ⟨by dsimp only; omega, ?_⟩, by dsimp only; omega, ?_⟩
        · dsimp only
          rw [lQ, if_pos q]
          exact p2
        · dsimp only
          rw [lQ, if_pos q, eq_X9_layQueue_7, m_r6, Option.bind_some, m_l6 (by omega) (by omega), Option.bind_some, mA_n (by decide), if_neg (fun z => by have := (iI_le ⟨by omega, by omega⟩ ⟨by omega, by omega⟩).mp z; omega), if_pos m_isc, cf, Option.bind_some]
          dsimp only
          rw [if_pos (by rw [q]; exact tb1), eq_X9_layQueue_87, iI_add, ei]
      · obtain ⟨A', x1, x2⟩ := c_queue30 (N := N) (h := h) (a := a) (mf := mF mf 22 (lQ (ma 2) c).length) (ma := ma) (c := c) K (lQ (ma 2) c) A hN ok (by omega) (fun o ho => by have := lQ_mem (ma 2) c o ho; omega) (by omega) p2 (mF_s _ _ _)
        refine ⟨(c + 1, A'), ⟨by dsimp only; omega, ?_⟩, by dsimp only; omega, ?_⟩
        · dsimp only
          rw [lQ, if_neg q]
          exact x1
        · dsimp only
          rw [lQ, if_neg q, eq_X9_layQueue_7, m_r6, Option.bind_some, m_l6 (by omega) (by omega), Option.bind_some, mA_n (by decide), if_neg (fun z => by have := (iI_le ⟨by omega, by omega⟩ ⟨by omega, by omega⟩).mp z; omega), if_pos m_isc, cf, Option.bind_some]
          dsimp only
          rw [if_neg (by simp [q]), m_g22, Option.bind_some, mF_s, x2, ei, List.length_insertIdx, if_pos (sIns_le _ _ _ _)]
          congr 2
          funext j
          by_cases ej : j = 22 <;> simp [mF, ej]
end M35
