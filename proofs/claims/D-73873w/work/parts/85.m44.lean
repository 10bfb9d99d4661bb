/-! ===== the model: groups sorted onto their spots ===== -/
/-- spots given, one behind another -/
def rGs (l : List (Int × Int × Int)) (r : Int → Int) : Int → Int := l.foldl (fun q x => rGive q x.1 x.2.1 x.2.2) r
theorem rGs_nil (r : Int → Int) : rGs [] r = r := rfl
theorem rGs_cons (x : Int × Int × Int) (l : List (Int × Int × Int)) (r : Int → Int) : rGs (x :: l) r = rGs l (rGive r x.1 x.2.1 x.2.2) := rfl
theorem rGs_app (l : List (Int × Int × Int)) (x : Int × Int × Int) (r : Int → Int) : rGs (l ++ [x]) r = rGive (rGs l r) x.1 x.2.1 x.2.2 := by simp [rGs]
theorem rGs_at {l : List (Int × Int × Int)} {q q' : Int → Int} {j : Int} (h : q j = q' j ∨ ∃ x, x ∈ l ∧ (j = 36 + 7 * x.1 + 5 ∨ j = 36 + 7 * x.1 + 6)) : rGs l q j = rGs l q' j := by
  induction l generalizing q q' with
  | nil =>
    rcases h with h | ⟨x, hx, _⟩
    · exact h
    · simp at hx
  | cons y t ih =>
    rw [rGs_cons, rGs_cons]
    apply ih
    by_cases e1 : j = 36 + 7 * y.1 + 5
    · subst e1
      left
      rw [rGive_row, rGive_row]
    · by_cases e2 : j = 36 + 7 * y.1 + 6
      · subst e2
        left
        rw [rGive_site, rGive_site]
      · rcases h with h | ⟨x, hx, hj⟩
        · left
          rw [rGive_n e1 e2, rGive_n e1 e2, h]
        · right
          rw [List.mem_cons] at hx
          rcases hx with hx | hx
          · subst hx
            rcases hj with hj | hj
            · exact absurd hj e1
            · exact absurd hj e2
          · exact ⟨x, hx, hj⟩
theorem rGs_n {l : List (Int × Int × Int)} {q : Int → Int} {j : Int} (h : ∀ x, x ∈ l → j ≠ 36 + 7 * x.1 + 5 ∧ j ≠ 36 + 7 * x.1 + 6) : rGs l q j = q j := by
  induction l generalizing q with
  | nil => rfl
  | cons y t ih =>
    rw [rGs_cons, ih (fun x hx => h x (by simp [hx]))]
    have := h y (by simp)
    rw [rGive_n this.1 this.2]
/-- what is given covers what was given -/
theorem rGs_rGs {l l' : List (Int × Int × Int)} {r : Int → Int} (h : ∀ x, x ∈ l' → ∃ y, y ∈ l ∧ y.1 = x.1) : rGs l (rGs l' r) = rGs l r := by
  funext j
  apply rGs_at
  by_cases q : ∃ x, x ∈ l' ∧ (j = 36 + 7 * x.1 + 5 ∨ j = 36 + 7 * x.1 + 6)
  · right
    obtain ⟨x, hx, hj⟩ := q
    obtain ⟨y, hy, e⟩ := h x hx
    exact ⟨y, hy, by rw [e]; exact hj⟩
  · left
    apply rGs_n
    intro x hx
    constructor
    · exact fun z => q ⟨x, hx, Or.inl z⟩
    · exact fun z => q ⟨x, hx, Or.inr z⟩
theorem rGs_ok {l : List (Int × Int × Int)} {r : Int → Int} (v : vOk r) (h : ∀ x, x ∈ l → (0 ≤ x.1 ∧ x.1 < 20) ∧ (-1 ≤ x.2.1 ∧ x.2.1 ≤ 600) ∧ (-1 ≤ x.2.2 ∧ x.2.2 ≤ 600)) : vOk (rGs l r) ∧ sameX r (rGs l r) := by
  induction l generalizing r with
  | nil => exact ⟨v, sameX_r r⟩
  | cons y t ih =>
    have hy := h y (by simp)
    have := ih (vOk_give v hy.1.1 hy.1.2 hy.2.1 hy.2.2) (fun x hx => h x (by simp [hx]))
    exact ⟨this.1, sameX_t (sameX_give hy.1.1 hy.1.2) this.2⟩
/-- the best order: the first one with the least -/
def sBO (w : List Int → Int) : List (List Int) → List Int × Int → List Int × Int
  | [], x => x
  | o :: t, x => sBO w t (if w o < x.2 then (o, w o) else x)
def lPG (gl rs ss o : List Int) : Nat → List (Int × Int × Int)
  | 0 => []
  | i + 1 => lPG gl rs ss o i ++ [(lg gl i, lg rs (lg o i).toNat, lg ss (lg o i).toNat)]
theorem lPG_fst {gl rs ss o : List Int} {n : Nat} {x : Int × Int × Int} (h : x ∈ lPG gl rs ss o n) : ∃ i, i < n ∧ x = (lg gl i, lg rs (lg o i).toNat, lg ss (lg o i).toNat) := by
  induction n with
  | zero => simp [lPG] at h
  | succ n ih =>
    rw [lPG, List.mem_append, List.mem_singleton] at h
    rcases h with h | h
    · obtain ⟨i, i1, i2⟩ := ih h
      exact ⟨i, by omega, i2⟩
    · exact ⟨n, by omega, h⟩
theorem lPG_mem {gl rs ss o : List Int} {n i : Nat} (h : i < n) : (lg gl i, lg rs (lg o i).toNat, lg ss (lg o i).toNat) ∈ lPG gl rs ss o n := by
  induction n with
  | zero => omega
  | succ n ih =>
    rw [lPG, List.mem_append, List.mem_singleton]
    by_cases e : i = n
    · subst e; exact Or.inr rfl
    · exact Or.inl (ih (by omega))
def sHv (r : Int → Int) (x y : Int) : Bool := aP (fun n => decide (¬ sPO r n x = -1) && decide (¬ sPO r n y = -1)) (r 3).toNat
def sGrC (r : Int → Int) (f w : Int) (l : List Int) (c : Nat) : Bool := ((!sFix r c && sHas r c) && (decide (r (36 + 7 * c + 1) = f) && (decide (r (36 + 7 * c) = w) && decide (l.length < 5)))) && aW (fun i => !sHv r c (lg l i)) l.length
/-- a group: cells of a fence and a width without a net in common -/
def lGr (r : Int → Int) (f w : Int) : Nat → List Int
  | 0 => []
  | c + 1 => if sGrC r f w (lGr r f w c) c = true then lGr r f w c ++ [(c : Int)] else lGr r f w c
theorem lGr_ok (r : Int → Int) (f w : Int) (n : Nat) : (lGr r f w n).length ≤ 5 ∧ ∀ c, c ∈ lGr r f w n → 0 ≤ c ∧ c < n := by
  induction n with
  | zero => simp [lGr]
  | succ n ih =>
    rw [lGr]
    split
    · next q =>
      have : (lGr r f w n).length < 5 := by
        unfold sGrC at q
        simp only [Bool.and_eq_true, decide_eq_true_eq] at q
        exact q.1.2.2.2
      refine ⟨by rw [List.length_append]; simp only [List.length_cons, List.length_nil]; omega, ?_⟩
      intro c hc
      rw [List.mem_append, List.mem_singleton] at hc
      rcases hc with hc | hc
      · have := ih.2 c hc; omega
      · omega
    · exact ⟨ih.1, fun c hc => by have := ih.2 c hc; omega⟩
section M44
variable {N : Nat} {h : ka_H} {a : Nat} {mf : Nat → Int} {ma : Nat → Int → Int}
theorem c_haveNet {x y : Int} (hN : 5000 ≤ N) (v : vOk (ma 2)) (hx : 0 ≤ x ∧ x < 20) (hy : 0 ≤ y ∧ y < 20) : fm_X9_haveNet N [.ref a, .int (iI x), .int (iI y)] (mH h a mf ma) = some (sHv (ma 2) x y, mH h a mf ma) := by
  have g3 := v.1.2.2.2.2.1
  rw [en_X9_haveNet, eq_X9_haveNet_0]
  have key := fix_up (B := cm_X9_haveNet_5 N) (R := some (sHv (ma 2) x y, mH h a mf ma)) (fun i => [some (.ref a), some (.int (iI x)), some (.int (iI y)), some (.int (if aP (fun n => decide (¬ sPO (ma 2) n x = -1) && decide (¬ sPO (ma 2) n y = -1)) i = true then iI 1 else iI 0)), some (.int (iI i))]) (fun _ => mH h a mf ma) (ma 2 3).toNat ?_ ?_ N 0 (by omega) (by omega)
  · exact key
  · intro K
    rw [eq_X9_haveNet_5, m_r6, Option.bind_some, m_l6 (by omega) (by omega), Option.bind_some, if_pos ((iI_le ⟨by omega, by omega⟩ ⟨by omega, by omega⟩).mpr (by omega)), bo_id]
    rfl
  · intro K i hi
    have ei : ((i + 1 : Nat) : Int) = (i : Int) + 1 := by omega
    have p1 := c_pinOf (N := N) (h := h) (a := a) (mf := mf) (ma := ma) (n := i) (c := x) hN v (by omega) (by omega) hx
    have p2 := c_pinOf (N := N) (h := h) (a := a) (mf := mf) (ma := ma) (n := i) (c := y) hN v (by omega) (by omega) hy
    have k1 := (v.2.1 i (by omega) (by omega)).1
    have b1 : -1 ≤ sPO (ma 2) i x ∧ sPO (ma 2) i x < 6 := by
      have := aL_range (p := fun k => decide (sWho (ma 2) i k = x)) (n := (ma 2 (176 + 14 * i + 1)).toNat)
      unfold sPO
      omega
    have b2 : -1 ≤ sPO (ma 2) i y ∧ sPO (ma 2) i y < 6 := by
      have := aL_range (p := fun k => decide (sWho (ma 2) i k = y)) (n := (ma 2 (176 + 14 * i + 1)).toNat)
      unfold sPO
      omega
    rw [eq_X9_haveNet_5, m_r6, Option.bind_some, m_l6 (by omega) (by omega), Option.bind_some, if_neg (fun z => by have := (iI_le ⟨by omega, by omega⟩ ⟨by omega, by omega⟩).mp z; omega), aP, ei]
    generalize aP (fun n => decide (¬ sPO (ma 2) n x = -1) && decide (¬ sPO (ma 2) n y = -1)) i = b
    by_cases q0 : b = true
    · subst q0
      rw [if_pos tb1, eq_X9_haveNet_42, eq_X9_haveNet_47, iI_add]
      rfl
    · have q0' : b = false := by simpa using q0
      subst q0'
      rw [if_neg (fun z => z rfl), if_pos m_isc, p1, Option.bind_some]
      dsimp only
      by_cases q1 : sPO (ma 2) i x = -1
      · rw [if_pos (by rw [q1]), eq_X9_haveNet_46, eq_X9_haveNet_47, iI_add]
        simp [q1]
      · rw [if_neg (by rw [iI_eq ⟨by omega, by omega⟩ ⟨by omega, by omega⟩]; exact q1), if_pos m_isc, p2, Option.bind_some]
        dsimp only
        by_cases q2 : sPO (ma 2) i y = -1
        · rw [if_pos (by rw [q2]), eq_X9_haveNet_46, eq_X9_haveNet_47, iI_add]
          simp [q2]
        · rw [if_neg (by rw [iI_eq ⟨by omega, by omega⟩ ⟨by omega, by omega⟩]; exact q2), eq_X9_haveNet_42, eq_X9_haveNet_47, iI_add]
          simp [q1, q2]
/-- the group in the arrays -/
def mGr (ma : Nat → Int → Int) (r : Int → Int) (l : List Int) : Nat → Int → Int := mA (mA (mA ma 21 (rList l (ma 21))) 22 (rList (l.map (fun c => r (36 + 7 * c + 5))) (ma 22))) 23 (rList (l.map (fun c => r (36 + 7 * c + 6))) (ma 23))
theorem mGr_n {ma : Nat → Int → Int} {r : Int → Int} {l : List Int} {p : Nat} (hp : p < 21 ∨ 23 < p) : mGr ma r l p = ma p := by
  unfold mGr
  rw [mA_n (by omega), mA_n (by omega), mA_n (by omega)]
theorem mGr_21 (ma : Nat → Int → Int) (r : Int → Int) (l : List Int) : mGr ma r l 21 = rList l (ma 21) := by
  unfold mGr
  rw [mA_n (by omega), mA_n (by omega), mA_2]
theorem mGr_22 (ma : Nat → Int → Int) (r : Int → Int) (l : List Int) : mGr ma r l 22 = rList (l.map (fun c => r (36 + 7 * c + 5))) (ma 22) := by
  unfold mGr
  rw [mA_n (by omega), mA_2]
theorem mGr_23 (ma : Nat → Int → Int) (r : Int → Int) (l : List Int) : mGr ma r l 23 = rList (l.map (fun c => r (36 + 7 * c + 6))) (ma 23) := by
  unfold mGr
  rw [mA_2]
theorem mGr_app (ma : Nat → Int → Int) (r : Int → Int) (l : List Int) (c : Int) : mA (mA (mA (mGr ma r l) 21 (rU (rList l (ma 21)) l.length c)) 22 (rU (rList (l.map (fun c => r (36 + 7 * c + 5))) (ma 22)) l.length (r (36 + 7 * c + 5)))) 23 (rU (rList (l.map (fun c => r (36 + 7 * c + 6))) (ma 23)) l.length (r (36 + 7 * c + 6))) = mGr ma r (l ++ [c]) := by
  have e1 := rList_app l (ma 21) c
  have e2 := rList_app (l.map (fun c => r (36 + 7 * c + 5))) (ma 22) (r (36 + 7 * c + 5))
  have e3 := rList_app (l.map (fun c => r (36 + 7 * c + 6))) (ma 23) (r (36 + 7 * c + 6))
  rw [List.length_map] at e2 e3
  rw [e1, e2, e3]
  funext p
  unfold mGr
  simp only [List.map_append, List.map_cons, List.map_nil]
  by_cases p8 : p = 21
  · simp [mA, p8]
  · by_cases p9 : p = 22
    · simp [mA, p9]
    · by_cases p10 : p = 23
      · simp [mA, p10]
      · simp [mA, p8, p9, p10]
theorem c_group56 {f w : Int} {c : Nat} (K7 : ka_K ka_H) (l : List Int) (b : Bool) (hN : 5000 ≤ N) (v : vOk (ma 2)) (hc : (c : Int) < ma 2 2) (hl : l.length ≤ 5) (hlb : b = true → l.length < 5) (hm : ∀ d, d ∈ l → 0 ≤ d ∧ d < 20) :
    cm_X9_layGroup_56 N K7 [some (.ref a), some (.int (iI f)), some (.int (iI w)), some (.int (iI c))] [.int (if b = true then iI 1 else iI 0)] (mH h a (mF mf 34 l.length) (mGr ma (ma 2) l)) = K7 [some (.ref a), some (.int (iI f)), some (.int (iI w)), some (.int (iI ((c : Int) + 1)))] [] (mH h a (mF mf 34 (if (b && aW (fun i => !sHv (ma 2) c (lg l i)) l.length) = true then l ++ [(c : Int)] else l).length) (mGr ma (ma 2) (if (b && aW (fun i => !sHv (ma 2) c (lg l i)) l.length) = true then l ++ [(c : Int)] else l))) := by
  have g2 := v.1.2.2.2.1
  rw [eq_X9_layGroup_56]
  have key := fix_up (B := cm_X9_layGroup_61 N K7) (R := K7 [some (.ref a), some (.int (iI f)), some (.int (iI w)), some (.int (iI ((c : Int) + 1)))] [] (mH h a (mF mf 34 (if (b && aW (fun i => !sHv (ma 2) c (lg l i)) l.length) = true then l ++ [(c : Int)] else l).length) (mGr ma (ma 2) (if (b && aW (fun i => !sHv (ma 2) c (lg l i)) l.length) = true then l ++ [(c : Int)] else l)))) (fun i => [some (.ref a), some (.int (iI f)), some (.int (iI w)), some (.int (iI c)), some (.int (if (b && aW (fun i => !sHv (ma 2) c (lg l i)) i) = true then iI 1 else iI 0)), some (.int (iI i))]) (fun _ => mH h a (mF mf 34 l.length) (mGr ma (ma 2) l)) l.length ?_ ?_ N 0 (by omega) (by omega)
  · simp only [aW, Bool.and_true, Int.natCast_zero] at key
    exact key
  · intro K
    rw [eq_X9_layGroup_61, m_g34, Option.bind_some, mF_s, if_pos ((iI_le ⟨by omega, by omega⟩ ⟨by omega, by omega⟩).mpr (Int.le_refl _))]
    by_cases q : (b && aW (fun i => !sHv (ma 2) c (lg l i)) l.length) = true
    · have hb : b = true := by
        rw [Bool.and_eq_true] at q
        exact q.1
      have hl5 := hlb hb
      have app := mGr_app ma (ma 2) l c
      have el : (if (b && aW (fun i => !sHv (ma 2) c (lg l i)) l.length) = true then l ++ [(c : Int)] else l) = l ++ [(c : Int)] := if_pos q
      rw [el, if_neg (by rw [q]; exact tb1), m_r31, Option.bind_some, Option.bind_some, m_s31 (by omega) (by omega), Option.bind_some, mU_mA, mGr_21, m_r32, Option.bind_some, m_g34, Option.bind_some, mF_s, m_r6, Option.bind_some, c_cellAt, Option.bind_some]
      dsimp only
      rw [iI_add, m_l6 (by omega) (by omega), Option.bind_some, mA_n (by decide), mGr_n (by omega), m_s32 (by omega) (by omega), Option.bind_some, mU_mA, mA_n (by decide), mGr_22, m_r33, Option.bind_some, m_g34, Option.bind_some, mF_s, m_r6, Option.bind_some, c_cellAt, Option.bind_some]
      dsimp only
      rw [iI_add, m_l6 (by omega) (by omega), Option.bind_some, mA_n (by decide), mA_n (by decide), mGr_n (by omega), m_s33 (by omega) (by omega), Option.bind_some, mU_mA, mA_n (by decide), mA_n (by decide), mGr_23, m_g34, Option.bind_some, mF_s, eq_X9_layGroup_165, iI_add, m_p34, Option.bind_some, eq_X9_layGroup_169, app, iI_add, List.length_append]
      simp only [List.length_cons, List.length_nil]
      congr 2
      funext j
      by_cases ej : j = 34 <;> simp [mF, ej]
    · have el : (if (b && aW (fun i => !sHv (ma 2) c (lg l i)) l.length) = true then l ++ [(c : Int)] else l) = l := if_neg q
      rw [el, if_pos (by rw [iI_zb]; simpa using q), eq_X9_layGroup_169, iI_add]
  · intro K i hi
    have ei : ((i + 1 : Nat) : Int) = (i : Int) + 1 := by omega
    have eg : lg l i = l[i] := by simp [lg, hi]
    have hd := hm l[i] (List.getElem_mem hi)
    have ch := c_haveNet (N := N) (h := h) (a := a) (mf := mF mf 34 l.length) (ma := mGr ma (ma 2) l) (x := c) (y := lg l i) hN (by rw [mGr_n (by omega)]; exact v) (by omega) (by rw [eg]; exact hd)
    rw [mGr_n (by omega)] at ch
    rw [eq_X9_layGroup_61, m_g34, Option.bind_some, mF_s, if_neg (fun z => by have := (iI_le ⟨by omega, by omega⟩ ⟨by omega, by omega⟩).mp z; omega), aW, ← Bool.and_assoc, ei]
    generalize (b && aW (fun i => !sHv (ma 2) c (lg l i)) i) = t
    by_cases q : t = true
    · subst q
      rw [if_neg tb1, m_r31, Option.bind_some, m_l31 (by omega) (by omega), Option.bind_some, mGr_21, rList_lg hi, if_pos m_isc, ch, Option.bind_some]
      dsimp only
      by_cases q2 : sHv (ma 2) c (lg l i) = true
      · rw [if_pos (by rw [q2]; exact tb1), eq_X9_layGroup_94, eq_X9_layGroup_95, iI_add, q2]
        rfl
      · have q2' : sHv (ma 2) c (lg l i) = false := by simpa using q2
        rw [if_neg (by rw [q2']; exact fun z => z rfl), eq_X9_layGroup_95, iI_add, q2']
        rfl
    · have q' : t = false := by simpa using q
      subst q'
      rw [if_pos (by rfl), eq_X9_layGroup_94, eq_X9_layGroup_95, iI_add]
      rfl
theorem c_layGroup {f w : Int} (hN : 5000 ≤ N) (v : vOk (ma 2)) (hf : -1 ≤ f ∧ f ≤ 10) (hw : 0 ≤ w ∧ w ≤ 10) : fm_X9_layGroup N [.ref a, .int (iI f), .int (iI w)] (mH h a mf ma) = some (mH h a (mF mf 34 (lGr (ma 2) f w (ma 2 2).toNat).length) (mGr ma (ma 2) (lGr (ma 2) f w (ma 2 2).toNat))) := by
  have g2 := v.1.2.2.2.1
  rw [en_X9_layGroup, eq_X9_layGroup_0, m_p34, Option.bind_some]
  have key := fix_up (B := cm_X9_layGroup_7 N) (R := some (mH h a (mF mf 34 (lGr (ma 2) f w (ma 2 2).toNat).length) (mGr ma (ma 2) (lGr (ma 2) f w (ma 2 2).toNat)))) (fun i => [some (.ref a), some (.int (iI f)), some (.int (iI w)), some (.int (iI i))]) (fun i => mH h a (mF mf 34 (lGr (ma 2) f w i).length) (mGr ma (ma 2) (lGr (ma 2) f w i))) (ma 2 2).toNat ?_ ?_ N 0 (by omega) (by omega)
  · have e : mGr ma (ma 2) [] = ma := by
      unfold mGr
      simp only [List.map_nil, rList_nil]
      rw [mA_self, mA_self, mA_self]
    simp only [lGr, List.length_nil, Int.natCast_zero, e] at key
    exact key
  · intro K
    rw [eq_X9_layGroup_7, m_r6, Option.bind_some, m_l6 (by omega) (by omega), Option.bind_some, mGr_n (by omega), if_pos ((iI_le ⟨by omega, by omega⟩ ⟨by omega, by omega⟩).mpr (by omega))]
  · intro K i hi
    obtain ⟨l1, l2⟩ := lGr_ok (ma 2) f w i
    rw [lGr]
    unfold sGrC
    generalize lGr (ma 2) f w i = l at l1 l2
    have fk := v.2.2.1 i (by omega) (by omega)
    have g1 := v.1.2.2.1
    have wk := v.1.2.2.2.2.2 i (by omega) (by omega)
    have ei : ((i + 1 : Nat) : Int) = (i : Int) + 1 := by omega
    have cm := c_isMoving (N := N) (h := h) (a := a) (mf := mF mf 34 l.length) (ma := mGr ma (ma 2) l) (c := i) (by omega) (by rw [mGr_n (by omega)]; exact v.1.1)
    have cf := c_fenceOf (N := N) (h := h) (a := a) (mf := mF mf 34 l.length) (ma := mGr ma (ma 2) l) (c := i) (by omega) (by omega)
    have cw := c_width (N := N) (h := h) (a := a) (mf := mF mf 34 l.length) (ma := mGr ma (ma 2) l) (c := i) (by omega) (by omega)
    rw [mGr_n (by omega)] at cm cf cw
    have g56 := fun b hb => c_group56 (N := N) (h := h) (a := a) (mf := mf) (ma := ma) (f := f) (w := w) (c := i) K l b hN v (by omega) l1 hb (fun d hd => by have := l2 d hd; omega)
    have g0 := g56 false (by simp)
    rw [show (if false = true then iI 1 else iI 0) = iI 0 from rfl, Bool.false_and, if_neg (by decide)] at g0
    rw [eq_X9_layGroup_7, m_r6, Option.bind_some, m_l6 (by omega) (by omega), Option.bind_some, mGr_n (by omega), if_neg (fun z => by have := (iI_le ⟨by omega, by omega⟩ ⟨by omega, by omega⟩).mp z; omega), if_pos m_isc, cm, Option.bind_some, ei]
    dsimp only
    by_cases q1 : (!sFix (ma 2) i && sHas (ma 2) i) = true
    · rw [if_neg (by rw [q1]; exact tb1), if_pos m_isc, cf, Option.bind_some, q1, Bool.true_and]
      dsimp only
      by_cases q2 : ma 2 (36 + 7 * i + 1) = f
      · rw [if_neg (fun z => z (by rw [q2])), if_pos m_isc, cw, Option.bind_some, decide_eq_true q2, Bool.true_and]
        dsimp only
        by_cases q3 : ma 2 (36 + 7 * i) = w
        · rw [if_neg (fun z => z (by rw [q3])), m_g34, Option.bind_some, mF_s, decide_eq_true q3, Bool.true_and]
          by_cases q4 : l.length < 5
          · have g1' := g56 true (fun _ => q4)
            rw [show (if true = true then iI 1 else iI 0) = iI 1 from rfl] at g1'
            rw [if_neg (fun z => by have := (iI_le ⟨by omega, by omega⟩ ⟨by omega, by omega⟩).mp z; omega), g1', decide_eq_true q4]
          · rw [if_pos ((iI_le ⟨by omega, by omega⟩ ⟨by omega, by omega⟩).mpr (by omega)), eq_X9_layGroup_55, g0, decide_eq_false q4, Bool.false_and, if_neg (by decide)]
        · rw [if_pos (by rw [iI_eq ⟨by omega, by omega⟩ ⟨by omega, by omega⟩]; exact q3), eq_X9_layGroup_55, g0, decide_eq_false q3, Bool.false_and, Bool.false_and, if_neg (by decide)]
      · rw [if_pos (by rw [iI_eq ⟨by omega, by omega⟩ ⟨by omega, by omega⟩]; exact q2), eq_X9_layGroup_55, g0, decide_eq_false q2, Bool.false_and, Bool.false_and, if_neg (by decide)]
    · have q1' : (!sFix (ma 2) i && sHas (ma 2) i) = false := by simpa using q1
      rw [if_pos (by rw [q1']; rfl), eq_X9_layGroup_55, g0, q1', Bool.false_and, Bool.false_and, if_neg (by decide)]
end M44
