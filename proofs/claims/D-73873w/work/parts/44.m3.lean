/-! ===== the model: lawful spots, spots given and lost, undo's copies ===== -/
/-- all of them -/
def aW (p : Nat → Bool) : Nat → Bool
  | 0 => true
  | n + 1 => aW p n && p n
theorem aW_iff {p : Nat → Bool} {n : Nat} : aW p n = true ↔ ∀ k, k < n → p k = true := by
  induction n with
  | zero => simp [aW]
  | succ n ih =>
    rw [aW, Bool.and_eq_true, ih]
    constructor
    · rintro ⟨h1, h2⟩ k hk
      by_cases e : k = n
      · subst e; exact h2
      · exact h1 k (by omega)
    · exact fun h => ⟨fun k hk => h k (by omega), h n (by omega)⟩
theorem aW_down {p : Nat → Bool} {n m : Nat} (h : n ≤ m) (h1 : aW p n = false) : aW p m = false := by
  cases e : aW p m with
  | false => rfl
  | true =>
    rw [aW_iff] at e
    rw [aW_iff.mpr (fun k hk => e k (by omega))] at h1
    cases h1
theorem fix_aW {β : Type} {B : ka_K β → ka_K β} (L : Bool → Nat → ka_L) (h : ka_H) {r0 r1 : Option β} (p : Nat → Bool) (e : Nat) (hx : ∀ K b, B K (L b e) [] h = if b = true then r1 else r0) (hf : ∀ K i, i < e → B K (L false i) [] h = r0) (hs : ∀ K i, i < e → B K (L true i) [] h = K (L (p i) (i + 1)) [] h) : ∀ n i, i ≤ e → e - i < n → ki_fix B n (L (aW p i) i) [] h = if aW p e = true then r1 else r0 := by
  intro n
  induction n with
  | zero => intro i _ h; omega
  | succ n ih =>
    intro i h1 h2
    rw [ki_fix_s]
    by_cases h : i = e
    · subst h; exact hx _ _
    · cases hw : aW p i with
      | false => rw [hf _ i (by omega), aW_down h1 hw]; simp
      | true =>
        rw [hs _ i (by omega)]
        have := ih (i + 1) (by omega) (by omega)
        rw [aW, hw, Bool.true_and] at this
        exact this
section M3
variable {N : Nat} {h : ka_H} {a : Nat} {mf : Nat → Int} {ma : Nat → Int → Int}
/-- the row with one number changed; with a cell's spot changed -/
def rU (r : Int → Int) (i x : Int) : Int → Int := fun j => if j = i then x else r j
def rGive (r : Int → Int) (c : Int) (R S : Int) : Int → Int := rU (rU r (36 + 7 * c + 5) R) (36 + 7 * c + 6) S
theorem mA_2 (ma : Nat → Int → Int) (p : Nat) (f : Int → Int) : mA ma p f p = f := by simp [mA]
theorem mA_n {ma : Nat → Int → Int} {p q : Nat} {f : Int → Int} (h : q ≠ p) : mA ma p f q = ma q := by simp [mA, h]
theorem mA_self (ma : Nat → Int → Int) (p : Nat) : mA ma p (ma p) = ma := by
  funext q
  by_cases e : q = p
  · subst e; simp [mA]
  · simp [mA, e]
theorem mA_mA (ma : Nat → Int → Int) (p : Nat) (f g : Int → Int) : mA (mA ma p f) p g = mA ma p g := by
  funext q
  by_cases e : q = p <;> simp [mA, e]
theorem mU_mA (ma : Nat → Int → Int) (p : Nat) (i x : Int) : mU ma p i x = mA ma p (rU (ma p) i x) := by
  funext q j
  unfold mU mA rU
  by_cases e : q = p
  · subst e
    by_cases e2 : j = i <;> simp [e2]
  · simp [e]
theorem c_isMoving {c : Nat} (hc : c < 20) (hB : rB (ma 2)) : fm_X9_isMoving N [.ref a, .int (iI c)] (mH h a mf ma) = some (!sFix (ma 2) c && sHas (ma 2) c, mH h a mf ma) := by
  rw [en_X9_isMoving, eq_X9_isMoving_0]
  simp only [m_isc, c_isFixed hc hB, c_hasSpot hc hB, Option.bind_some, eq_X9_isMoving_20, eq_X9_isMoving_21, iI_zb, iI_10, eq_self, ↓reduceIte]
  by_cases q1 : sFix (ma 2) c = true <;> by_cases q2 : sHas (ma 2) c = true <;> simp [q1, q2]
/-- the cell there (but one); fixed ones alone, if told so -/
def sThere (r : Int → Int) (R S but : Int) (fx : Bool) (c : Nat) : Bool := decide (¬ (c : Int) = but) && (sCov r R S c && (!fx || sFix r c))
def sCel (r : Int → Int) (R S but : Int) (fx : Bool) : Int := aL (sThere r R S but fx) (r 2).toNat
theorem c_cellThere {R S but : Int} {fx : Bool} (hN : 5000 ≤ N) (hB : rB (ma 2)) (h0 : 0 ≤ ma 2 2 ∧ ma 2 2 ≤ 20) (hR : -10000 ≤ R ∧ R ≤ 10000) (hS : -10000 ≤ S ∧ S ≤ 10000) (hb : -10000 ≤ but ∧ but ≤ 10000) : fm_X9_cellThere N [.ref a, .int (iI R), .int (iI S), .int (iI but), .int (if fx = true then iI 1 else iI 0)] (mH h a mf ma) = some (iI (sCel (ma 2) R S but fx), mH h a mf ma) := by
  rw [en_X9_cellThere, eq_X9_cellThere_0]
  obtain ⟨e, he⟩ : ∃ e : Nat, ma 2 2 = e := ⟨(ma 2 2).toNat, by omega⟩
  refine fix_up (B := cm_X9_cellThere_6 N) (fun i => [some (.ref a), some (.int (iI R)), some (.int (iI S)), some (.int (iI but)), some (.int (if fx = true then iI 1 else iI 0)), some (.int (iI (aL (sThere (ma 2) R S but fx) i))), some (.int (iI i))]) (fun _ => mH h a mf ma) e ?_ ?_ N 0 (by omega) (by omega)
  · intro K
    rw [eq_X9_cellThere_6]
    simp (disch := omega) only [m_r6, Option.bind_some, m_l6, he, iI_leD, Int.le_refl, ↓reduceIte]
    unfold sCel
    rw [he, Int.toNat_natCast]
  · intro K i hi
    rw [eq_X9_cellThere_6]
    have c1 := c_covers (N := N) (h := h) (a := a) (mf := mf) (ma := ma) (c := i) (R := R) (S := S) (by omega) hB hR hS
    have c2 := c_isFixed (N := N) (h := h) (a := a) (mf := mf) (ma := ma) (c := i) (by omega) hB
    simp (disch := omega) only [m_r6, Option.bind_some, m_l6, he, iI_leD, iI_eqD, m_isc, c1, c2, eq_X9_cellThere_48, eq_X9_cellThere_53, eq_X9_cellThere_55, iI_zb, iI_add, ↓reduceIte]
    rw [if_neg (by omega)]
    have ei : ((i + 1 : Nat) : Int) = (i : Int) + 1 := by omega
    show _ = K [some (.ref a), some (.int (iI R)), some (.int (iI S)), some (.int (iI but)), some (.int (if fx = true then iI 1 else iI 0)), some (.int (iI (aL (sThere (ma 2) R S but fx) (i + 1)))), some (.int (iI ((i + 1 : Nat) : Int)))] [] _
    rw [ei, aL]
    unfold sThere
    by_cases q1 : (i : Int) = but <;> by_cases q2 : sCov (ma 2) R S i = true <;> by_cases q3 : fx = true <;> by_cases q4 : sFix (ma 2) i = true <;> simp [q1, q2, q3, q4]
/-- one site of a spot -/
def sOk1 (r : Int → Int) (c : Nat) (R : Int) (fx : Bool) (k : Int) : Bool := !sBar r R k && (decide (sFen r R k = r (36 + 7 * c + 1)) && decide (sCel r R k c fx = -1))
def sLaw (rows sites : Int) (r : Int → Int) (c : Nat) (R S : Int) (fx : Bool) : Bool := ((vIn R 0 (rows - 1) && vIn S 0 (sites - 1)) && decide (S + r (36 + 7 * c) ≤ sites)) && aW (fun k => sOk1 r c R fx (S + k)) (r (36 + 7 * c)).toNat
theorem c_isLawful {c : Nat} {R S : Int} {fx : Bool} (hN : 5000 ≤ N) (hB : rB (ma 2)) (h2 : 1 ≤ mf 2 ∧ mf 2 ≤ 8) (h3 : 8 ≤ mf 3 ∧ mf 3 ≤ 32) (g0 : 0 ≤ ma 2 0 ∧ ma 2 0 ≤ 4) (g1 : 0 ≤ ma 2 1 ∧ ma 2 1 ≤ 3) (g2 : 0 ≤ ma 2 2 ∧ ma 2 2 ≤ 20) (hc : c < 20) (hw : 1 ≤ ma 2 (36 + 7 * c) ∧ ma 2 (36 + 7 * c) ≤ 6) (hR : -2147483648 ≤ R ∧ R < 2147483648) (hS : -2147483648 ≤ S ∧ S < 2147483648) :
    fm_X9_isLawful N [.ref a, .int (iI c), .int (iI R), .int (iI S), .int (if fx = true then iI 1 else iI 0)] (mH h a mf ma) = some (sLaw (mf 2) (mf 3) (ma 2) c R S fx, mH h a mf ma) := by
  have cw := c_width (N := N) (h := h) (a := a) (mf := mf) (ma := ma) (c := c) (by omega) (by omega)
  have cf := c_fenceOf (N := N) (h := h) (a := a) (mf := mf) (ma := ma) (c := c) (by omega) (by omega)
  have bf := hB (36 + 7 * c + 1)
  rw [en_X9_isLawful, eq_X9_isLawful_0]
  simp only [m_isc, c_isSite h2 h3 hR hS, Option.bind_some, cw, m_g3, eq_X9_isLawful_27, eq_X9_isLawful_28, iI_zb, ↓reduceIte, iI_add]
  have hend : ∀ b : Bool, b = false → ki_fix (cm_X9_isLawful_33 N) N [some (.ref a), some (.int (iI c)), some (.int (iI R)), some (.int (iI S)), some (.int (if fx = true then iI 1 else iI 0)), some (.int (iI 0)), some (.int (iI S))] [] (mH h a mf ma) = some (b, mH h a mf ma) := by
    intro b hb
    subst hb
    obtain ⟨n, rfl⟩ : ∃ n, N = n + 1 := ⟨N - 1, by omega⟩
    conv => lhs; rw [ki_fix_s]
    rw [eq_X9_isLawful_33]
    simp only [m_isc, cw, Option.bind_some, eq_X9_isLawful_102, eq_self, ↓reduceIte, ite_self]
  unfold sLaw
  by_cases q1 : (vIn R 0 (mf 2 - 1) && vIn S 0 (mf 3 - 1)) = false
  · rw [if_pos q1]
    exact hend _ (by rw [q1]; rfl)
  · rw [if_neg q1]
    have q1' : (vIn R 0 (mf 2 - 1) && vIn S 0 (mf 3 - 1)) = true := by simpa using q1
    have q3 := q1'
    rw [Bool.and_eq_true] at q3
    have q4 := of_decide_eq_true q3.1
    have q5 := of_decide_eq_true q3.2
    simp (disch := omega) only [iI_ltD]
    by_cases q2 : mf 3 < S + ma 2 (36 + 7 * c)
    · rw [if_pos q2]
      exact hend _ (by rw [decide_eq_false (by omega)]; simp)
    · rw [if_neg q2, q1', decide_eq_true (show S + ma 2 (36 + 7 * c) ≤ mf 3 by omega), Bool.true_and, Bool.true_and]
      obtain ⟨e, he⟩ : ∃ e : Nat, ma 2 (36 + 7 * c) = e := ⟨(ma 2 (36 + 7 * c)).toNat, by omega⟩
      have key := fix_aW (B := cm_X9_isLawful_33 N) (r0 := some (false, mH h a mf ma)) (r1 := some (true, mH h a mf ma)) (fun b i => [some (.ref a), some (.int (iI c)), some (.int (iI R)), some (.int (iI S)), some (.int (if fx = true then iI 1 else iI 0)), some (.int (if b = true then iI 1 else iI 0)), some (.int (iI (S + i)))]) (mH h a mf ma) (fun k => sOk1 (ma 2) c R fx (S + k)) e ?_ ?_ ?_ N 0 (by omega) (by omega)
      · rw [he, Int.toNat_natCast]
        simp only [aW, Int.natCast_zero, Int.add_zero, ↓reduceIte] at key
        rw [key]
        by_cases q : aW (fun k => sOk1 (ma 2) c R fx (S + k)) e = true <;> simp [q]
      · intro K b
        rw [eq_X9_isLawful_33, if_pos m_isc, cw, Option.bind_some, he, iI_add, if_pos ((iI_le ⟨by omega, by omega⟩ ⟨by omega, by omega⟩).mpr (Int.le_refl _)), eq_X9_isLawful_102, bo_id]
        by_cases q : b = true <;> simp [q]
      · intro K i hi
        rw [eq_X9_isLawful_33, if_pos m_isc, cw, Option.bind_some, if_neg (c := false = true) (by decide), if_pos rfl, eq_X9_isLawful_102, if_pos rfl, ite_self]
      · intro K i hi
        have c1 := c_isBarred (N := N) (h := h) (a := a) (mf := mf) (ma := ma) (R := R) (S := S + i) hN hB g0 (by omega) (by omega)
        have c2 := c_fenceThere (N := N) (h := h) (a := a) (mf := mf) (ma := ma) (R := R) (S := S + i) hN hB g1 (by omega) (by omega)
        have c3 := c_cellThere (N := N) (h := h) (a := a) (mf := mf) (ma := ma) (R := R) (S := S + i) (but := c) (fx := fx) hN hB g2 (by omega) (by omega) (by omega)
        have b2 : -1 ≤ sFen (ma 2) R (S + i) ∧ sFen (ma 2) R (S + i) < 100 := by
          have := aL_range (p := sFin (ma 2) R (S + i)) (n := (ma 2 1).toNat)
          unfold sFen
          omega
        have b3 : -1 ≤ sCel (ma 2) R (S + i) c fx ∧ sCel (ma 2) R (S + i) c fx < 100 := by
          have := aL_range (p := sThere (ma 2) R (S + i) c fx) (n := (ma 2 2).toNat)
          unfold sCel
          omega
        rw [eq_X9_isLawful_33, if_pos m_isc, cw, Option.bind_some, he, iI_add, if_neg (fun q => absurd ((iI_le ⟨by omega, by omega⟩ ⟨by omega, by omega⟩).mp q) (by omega)), if_pos (c := true = true) rfl, if_neg (by decide), if_pos m_isc, c1, Option.bind_some]
        simp (disch := omega) only [m_isc, cf, c2, c3, Option.bind_some, iI_add, iI_eqD, eq_X9_isLawful_93, eq_X9_isLawful_94, iI_zb, ↓reduceIte]
        have ei : S + ((i + 1 : Nat) : Int) = S + (i : Int) + 1 := by omega
        show _ = K [some (.ref a), some (.int (iI c)), some (.int (iI R)), some (.int (iI S)), some (.int (if fx = true then iI 1 else iI 0)), some (.int (if sOk1 (ma 2) c R fx (S + i) = true then iI 1 else iI 0)), some (.int (iI (S + ((i + 1 : Nat) : Int))))] [] _
        rw [ei]
        unfold sOk1
        by_cases p1 : sBar (ma 2) R (S + i) = true <;> by_cases p2 : sFen (ma 2) R (S + i) = ma 2 (36 + 7 * c + 1) <;> by_cases p3 : sCel (ma 2) R (S + i) c fx = -1 <;> simp [p1, p2, p3]
theorem c_far {x y : Int} (hx : -1000000000 ≤ x ∧ x ≤ 1000000000) (hy : -1000000000 ≤ y ∧ y ≤ 1000000000) : fm_X9_far N [.int (iI x), .int (iI y)] h = some (iI (if y ≤ x then x - y else y - x), h) := by
  rw [en_X9_far, eq_X9_far_0]
  simp (disch := omega) only [iI_leD, iI_sub, eq_X9_far_14]
  by_cases q : y ≤ x <;> simp [q]
theorem c_held {v lo hi : Int} (h1 : -1000000000 ≤ v ∧ v ≤ 1000000000) (h2 : -1000000000 ≤ lo ∧ lo ≤ 1000000000) (h3 : -1000000000 ≤ hi ∧ hi ≤ 1000000000) : fm_X9_held N [.int (iI v), .int (iI lo), .int (iI hi)] h = some (iI (if v ≤ hi then (if lo ≤ v then v else lo) else hi), h) := by
  rw [en_X9_held, eq_X9_held_0]
  simp (disch := omega) only [iI_leD, eq_X9_held_19]
  by_cases q : v ≤ hi <;> by_cases q2 : lo ≤ v <;> simp [q, q2]
theorem c_tell {v : Int32} : fm_X9_tell N [.ref a, .int v] (mH h a mf ma) = some (v, mH h a (mF mf 1 0) ma) := by
  rw [en_X9_tell, eq_X9_tell_0, m_p1, Option.bind_some]
theorem c_refuse {v : Int} (h1 : -6 ≤ v ∧ v ≤ 0) : fm_X9_refuse N [.ref a, .int (iI v)] (mH h a mf ma) = some (iI v, mH h a (mF mf 1 v) (mA ma 0 (rU (ma 0) (-v) (ma 0 (-v) + 1)))) := by
  rw [en_X9_refuse, eq_X9_refuse_0]
  simp (disch := omega) only [m_p1, Option.bind_some, m_r4, iI_neg, m_l4, iI_add, m_s4, mU_mA]
theorem c_lose {c : Int} (h0 : 0 ≤ c) (h1 : c < 20) : fm_X9_lose N [.ref a, .int (iI c)] (mH h a mf ma) = some (mH h a mf (mA ma 2 (rGive (ma 2) c (-1) (-1)))) := by
  rw [en_X9_lose, eq_X9_lose_0]
  simp (disch := omega) only [m_r6, Option.bind_some, c_cellAt, iI_add, m_s6, mU_mA, mA_2, mA_mA]
  rfl
theorem c_give {c R S : Int} (h0 : 0 ≤ c) (h1 : c < 20) : fm_X9_give N [.ref a, .int (iI c), .int (iI R), .int (iI S)] (mH h a mf ma) = some (mH h a mf (mA ma 2 (rGive (ma 2) c R S))) := by
  rw [en_X9_give, eq_X9_give_0]
  simp (disch := omega) only [m_r6, Option.bind_some, c_cellAt, iI_add, m_s6, mU_mA, mA_2, mA_mA]
  rfl
end M3
