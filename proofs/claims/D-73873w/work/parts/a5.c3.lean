/-! ===== the component: lawful spots, spots given and lost ===== -/
theorem LV_u {r g : Int → Int} {c k x : Int} (lv : LV r g) (h0 : 0 ≤ c) (h1 : c < 20) (hk : 0 ≤ k) (hk2 : k < 7) (g3 : 0 ≤ r 3) : LV (rU r (36 + 7 * c + k) x) (rU g (36 + 7 * c + k) x) := by
  obtain ⟨a1, a2, a3, a4, a5⟩ := lv
  have gen : ∀ j, g j = r j → rU g (36 + 7 * c + k) x j = rU r (36 + 7 * c + k) x j := by
    intro j hj
    unfold rU
    split
    · rfl
    · exact hj
  have e : ∀ j, j < 36 → rU r (36 + 7 * c + k) x j = r j := fun j hj => rU_n (by omega)
  have e' : ∀ j, 176 ≤ j → rU r (36 + 7 * c + k) x j = r j := fun j hj => rU_n (by omega)
  refine ⟨fun j j0 j1 => gen j (a1 j j0 j1), fun q j q0 q1 j0 j1 => gen _ (a2 q j q0 (by rw [e 0 (by omega)] at q1; exact q1) j0 j1), fun q j q0 q1 j0 j1 => gen _ (a3 q j q0 (by rw [e 1 (by omega)] at q1; exact q1) j0 j1), fun q j q0 q1 j0 j1 => gen _ (a4 q j q0 (by rw [e 2 (by omega)] at q1; exact q1) j0 j1), ?_⟩
  intro n j n0 n1 j0 j1
  rw [e 3 (by omega)] at n1
  rw [e' _ (by omega)] at j1
  exact gen _ (a5 n j n0 n1 j0 j1)
theorem LV_give {r g : Int → Int} {c R S : Int} (lv : LV r g) (h0 : 0 ≤ c) (h1 : c < 20) (g3 : 0 ≤ r 3) : LV (rGive r c R S) (rGive g c R S) := by
  have := LV_u (k := 5) (x := R) lv h0 h1 (by omega) (by omega) g3
  exact LV_u (k := 6) (x := S) this h0 h1 (by omega) (by omega) (by rw [rU_n (by omega)]; exact g3)
section C3
variable {N : Nat} {h : ka_H} {B : Nat} {ca : Nat → Int → Int} {cb : Value} {r : Int → Int} {s : Nat}
theorem d_comes {k : Nat} {R S : Int} (hs : s < 14) (hk : k < 20) : fm_X6_comes N [.ref (cSl B s + 5 + k), .int (iI R), .int (iI S)] (cH h B ca cb) = some (cH h B (mA ca (40 + s) (rGive (ca (40 + s)) k R S)) cb) := by
  rw [en_X6_comes, eq_X6_comes_0, ce_p5 hs hk, Option.bind_some, ce_p6 hs hk, Option.bind_some, mA_2, mA_mA]
  rfl
theorem d_leaves {k : Nat} (hs : s < 14) (hk : k < 20) : fm_X6_leaves N [.ref (cSl B s + 5 + k)] (cH h B ca cb) = some (cH h B (mA ca (40 + s) (rGive (ca (40 + s)) k (-1) (-1))) cb) := by
  rw [en_X6_leaves, eq_X6_leaves_0, if_pos (ce_isc hs hk), d_comes hs hk, Option.bind_some]
theorem d_law82 {c : Nat} {R S k : Int} {ask : Bool} (K42 : ka_K (Bool × ka_H)) (hN : 5000 ≤ N) (hs : s < 14) (lv : LV r (ca (40 + s))) (ok : rOk r) (fx : fxOk r) (hc : c < 20) (hR : -2147483648 ≤ R ∧ R < 2147483648) (hk : -2147483648 ≤ k ∧ k < 2147483648) :
    ki_fix (cm_X5_isLawful_82 N K42) N [some (.ref (cSl B s)), some (.ref (cSl B s + 5 + c)), some (.int (iI R)), some (.int (iI S)), some (.int (if ask = true then iI 1 else iI 0)), some (.int (iI k)), some (.int (iI 0))] [] (cH h B ca cb) = if sCel r R k c (!ask) = -1 then K42 [some (.ref (cSl B s)), some (.ref (cSl B s + 5 + c)), some (.int (iI R)), some (.int (iI S)), some (.int (if ask = true then iI 1 else iI 0)), some (.int (iI (k + 1)))] [] (cH h B ca cb) else some (false, cH h B ca cb) := by
  have g2 := ok.2.2.2.1
  have key := fix_aP (B := cm_X5_isLawful_82 N K42) (r0 := K42 [some (.ref (cSl B s)), some (.ref (cSl B s + 5 + c)), some (.int (iI R)), some (.int (iI S)), some (.int (if ask = true then iI 1 else iI 0)), some (.int (iI (k + 1)))] [] (cH h B ca cb)) (r1 := some (false, cH h B ca cb)) (fun i => [some (.ref (cSl B s)), some (.ref (cSl B s + 5 + c)), some (.int (iI R)), some (.int (iI S)), some (.int (if ask = true then iI 1 else iI 0)), some (.int (iI k)), some (.int (iI i))]) (cH h B ca cb) (sThere r R k c (!ask)) (r 2).toNat ?_ ?_ N 0 (by omega) (by omega) rfl
  · refine Eq.trans key ?_
    unfold sCel
    by_cases q : aP (sThere r R k c (!ask)) (r 2).toNat = true
    · rw [if_pos q, if_neg (fun z => by rw [aL_none, q] at z; cases z)]
    · rw [if_neg q, if_pos (aL_none.mpr (by simpa using q))]
  · intro K
    rw [eq_X5_isLawful_82, ch_g4 hs, Option.bind_some, l4 lv 2 (by omega) (by omega), if_pos ((iI_le ⟨by omega, by omega⟩ ⟨by omega, by omega⟩).mpr (by omega)), iI_add]
  · intro K i hi
    have b := ok.1 (36 + 7 * i + 2)
    have f := sFix_iff (k := i) fx (by omega)
    rw [eq_X5_isLawful_82, ch_g4 hs, Option.bind_some, l4 lv 2 (by omega) (by omega), if_neg (fun z => by have := (iI_le ⟨by omega, by omega⟩ ⟨by omega, by omega⟩).mp z; omega), ch_r0 hs, Option.bind_some, ch_cell hs (by omega), Option.bind_some, eq_X5_isLawful_138, iI_add]
    unfold sThere
    have ei : ((i + 1 : Nat) : Int) = (i : Int) + 1 := by omega
    rw [ei]
    by_cases q1 : i = c
    · have : ¬ ¬ (i : Int) = c := by omega
      rw [if_pos (by omega), decide_eq_false this, Bool.false_and, if_neg (c := false = true) (by decide)]
    · have : ¬ (i : Int) = c := by omega
      rw [if_neg (by omega), decide_eq_true this, Bool.true_and, Option.bind_some, ch_cell hs (by omega), Option.bind_some, if_pos (ce_isc hs (by omega)), d_lies hs lv ok (by omega) hR hk, Option.bind_some, eq_X5_isLawful_136, eq_X5_isLawful_138, iI_add]
      dsimp only
      by_cases q2 : sCov r R k i = true
      · rw [if_neg (by rw [q2]; exact tb1), q2, Bool.true_and]
        by_cases q3 : ask = true
        · rw [q3, if_pos tb1, if_pos (by rfl)]
        · have q3' : ask = false := by simpa using q3
          rw [q3', if_neg (fun z => z rfl), ch_r0 hs, Option.bind_some, ch_cell hs (by omega), Option.bind_some, ce_g7 hs (by omega), Option.bind_some, lc lv (by omega) 2 (by omega) (by omega)]
          by_cases q4 : r (36 + 7 * i + 2) = 0
          · have q5 : sFix r i = false := by
              cases e : sFix r i with
              | false => rfl
              | true => exact absurd q4 (f.mpr e)
            rw [if_pos (by rw [q4]), q5, if_neg (c := (!!false || false) = true) (by decide)]
          · rw [if_neg (by rw [iI_eq ⟨by omega, by omega⟩ ⟨by omega, by omega⟩]; exact q4), f.mp q4, if_pos (by rfl)]
      · have q2' : sCov r R k i = false := by simpa using q2
        rw [q2', if_pos (by rfl), Bool.false_and, if_neg (c := false = true) (by decide)]
theorem d_isLawful {c : Nat} {R S : Int} {ask : Bool} (hN : 5000 ≤ N) (hs : s < 14) (lv : LV r (ca (40 + s))) (ok : rOk r) (fx : fxOk r) (fd : fdOk r) (hh : ∀ k : Int, -1000 ≤ ca (40 + s) (1000 + k) ∧ ca (40 + s) (1000 + k) ≤ 1000) (z0 : 1 ≤ ca 30 0 ∧ ca 30 0 ≤ 8) (z1 : 8 ≤ ca 30 1 ∧ ca 30 1 ≤ 32) (hc : (c : Int) < r 2) (hR : -2147483648 ≤ R ∧ R < 2147483648) (hS : -2147483648 ≤ S ∧ S < 2147483648) :
    fm_X5_isLawful N [.ref (cSl B s), .ref (cSl B s + 5 + c), .int (iI R), .int (iI S), .int (if ask = true then iI 1 else iI 0)] (cH h B ca cb) = some (sLaw (ca 30 0) (ca 30 1) r c R S (!ask), cH h B ca cb) := by
  have g2 := ok.2.2.2.1
  have hw := ok.2.2.2.2.2 c (by omega) hc
  have b1 := ok.1 (36 + 7 * c + 1)
  have c0 := lc0 lv hc
  rw [en_X5_isLawful, eq_X5_isLawful_0, ch_r8 hs, Option.bind_some, ob_g0, Option.bind_some, iI_sub, d_in hR (by omega) (by omega), Option.bind_some, eq_X5_isLawful_37]
  dsimp only
  unfold sLaw
  by_cases q1 : vIn R 0 (ca 30 0 - 1) = true
  · have bR := of_decide_eq_true q1
    rw [if_neg (c := (if vIn R 0 (ca 30 0 - 1) = true then iI 1 else iI 0) = iI 0) (by rw [q1]; exact tb1), ch_r8 hs, Option.bind_some, ob_g1, Option.bind_some, ce_g1 hs (by omega), Option.bind_some, c0, iI_sub, d_in hS (by omega) (by omega), Option.bind_some, q1, Bool.true_and, eq_X5_isLawful_37]
    dsimp only
    have e1 : (vIn S 0 (ca 30 1 - 1) && decide (S + r (36 + 7 * c) ≤ ca 30 1)) = vIn S 0 (ca 30 1 - r (36 + 7 * c)) := by
      unfold vIn
      by_cases q : 0 ≤ S ∧ S ≤ ca 30 1 - r (36 + 7 * c)
      · rw [decide_eq_true q, decide_eq_true (show 0 ≤ S ∧ S ≤ ca 30 1 - 1 by omega), decide_eq_true (show S + r (36 + 7 * c) ≤ ca 30 1 by omega)]
        rfl
      · rw [decide_eq_false q]
        by_cases q' : S + r (36 + 7 * c) ≤ ca 30 1
        · rw [decide_eq_false (show ¬ (0 ≤ S ∧ S ≤ ca 30 1 - 1) by omega), Bool.false_and]
        · rw [decide_eq_false q', Bool.and_false]
    rw [e1]
    by_cases q2 : vIn S 0 (ca 30 1 - r (36 + 7 * c)) = true
    · have bS := of_decide_eq_true q2
      rw [if_pos (c := ¬ (if vIn S 0 (ca 30 1 - r (36 + 7 * c)) = true then iI 1 else iI 0) = iI 0) (by rw [q2]; exact tb1), q2, Bool.true_and]
      have key := fix_aP (B := cm_X5_isLawful_42 N) (r0 := some (true, cH h B ca cb)) (r1 := some (false, cH h B ca cb)) (fun i => [some (.ref (cSl B s)), some (.ref (cSl B s + 5 + c)), some (.int (iI R)), some (.int (iI S)), some (.int (if ask = true then iI 1 else iI 0)), some (.int (iI (S + i)))]) (cH h B ca cb) (fun i => !sOk1 r c R (!ask) (S + i)) (r (36 + 7 * c)).toNat ?_ ?_ N 0 (by omega) (by omega) rfl
      · simp only [Int.natCast_zero, Int.add_zero] at key
        refine Eq.trans key ?_
        by_cases q : aP (fun i : Nat => !sOk1 r c R (!ask) (S + i)) (r (36 + 7 * c)).toNat = true
        · rw [if_pos q]
          obtain ⟨m, m1, m2⟩ := aP_iff.mp q
          have : aW (fun k : Nat => sOk1 r c R (!ask) (S + k)) (r (36 + 7 * c)).toNat = false := by
            cases e : aW (fun k : Nat => sOk1 r c R (!ask) (S + k)) (r (36 + 7 * c)).toNat with
            | false => rfl
            | true =>
              have := aW_iff.mp e m m1
              rw [this] at m2
              cases m2
          rw [this]
        · rw [if_neg q]
          have q' : aP (fun i : Nat => !sOk1 r c R (!ask) (S + i)) (r (36 + 7 * c)).toNat = false := by simpa using q
          have : aW (fun k : Nat => sOk1 r c R (!ask) (S + k)) (r (36 + 7 * c)).toNat = true := by
            rw [aW_iff]
            intro m m1
            have := aP_false.mp q' m m1
            cases e : sOk1 r c R (!ask) (S + m) with
            | false => rw [e] at this; cases this
            | true => rfl
          rw [this]
      · intro K
        rw [eq_X5_isLawful_42, ce_g1 hs (by omega), Option.bind_some, c0, iI_add, if_pos ((iI_le ⟨by omega, by omega⟩ ⟨by omega, by omega⟩).mpr (by omega))]
      · intro K i hi
        have bf := sFen_b r R (S + i) ok.2.2.1.2
        have ei : S + ((i + 1 : Nat) : Int) = S + (i : Int) + 1 := by omega
        rw [eq_X5_isLawful_42, ce_g1 hs (by omega), Option.bind_some, c0, iI_add, if_neg (fun z => by have := (iI_le ⟨by omega, by omega⟩ ⟨by omega, by omega⟩).mp z; omega), if_pos (ch_isc hs), d_isBarred hN hs lv ok hR (by omega), Option.bind_some, eq_X5_isLawful_77]
        dsimp only
        unfold sOk1
        by_cases p1 : sBar r R (S + i) = true
        · rw [if_pos (by rw [p1]; exact tb1), p1, if_pos (by rfl)]
        · have p1' : sBar r R (S + i) = false := by simpa using p1
          rw [p1', if_neg (fun z => z rfl), if_pos (ch_isc hs), d_fenceAt hN hs lv ok fd hh hR (by omega), Option.bind_some, Bool.not_false, Bool.true_and, eq_X5_isLawful_77]
          dsimp only
          rw [ce_g2 hs (by omega), Option.bind_some, lc lv hc 1 (by omega) (by omega)]
          by_cases p2 : sFen r R (S + i) = r (36 + 7 * c + 1)
          · rw [if_pos (by rw [p2]), d_law82 K hN hs lv ok fx (by omega) hR (by omega), decide_eq_true p2, Bool.true_and, ei]
            by_cases p3 : sCel r R (S + i) c (!ask) = -1
            · rw [if_pos p3, decide_eq_true p3, if_neg (c := (!true) = true) (by decide)]
            · rw [if_neg p3, decide_eq_false p3, if_pos (by rfl)]
          · rw [if_neg (by rw [iI_eq ⟨by omega, by omega⟩ ⟨by omega, by omega⟩]; exact p2), decide_eq_false p2, Bool.false_and, if_pos (by rfl)]
    · have q2' : vIn S 0 (ca 30 1 - r (36 + 7 * c)) = false := by simpa using q2
      rw [q2', if_neg (fun z => z rfl), Bool.false_and]
  · have q1' : vIn R 0 (ca 30 0 - 1) = false := by simpa using q1
    rw [q1', if_pos (by rfl), Bool.false_and, Bool.false_and, Bool.false_and]
theorem d_lierAt {c : Nat} {R S : Int} (hN : 5000 ≤ N) (hs : s < 14) (lv : LV r (ca (40 + s))) (ok : rOk r) (ov : ovOk r) (hc : c < 20) (hR : 0 ≤ R ∧ R < 100) (hS : -2147483648 ≤ S ∧ S < 2147483648) : fm_X5_lierAt N [.ref (cSl B s), .int (iI R), .int (iI S), .ref (cSl B s + 5 + c)] (cH h B ca cb) = some (if sCel r R S c false = -1 then none else some (cSl B s + 5 + (sCel r R S c false).toNat), cH h B ca cb) := by
  have g2 := ok.2.2.2.1
  rw [en_X5_lierAt, eq_X5_lierAt_0]
  have key := fix_ms (B := cm_X5_lierAt_3 N) (fun i : Nat => [some (.ref (cSl B s)), some (.int (iI R)), some (.int (iI S)), some (.ref (cSl B s + 5 + c)), some (.int (iI i))]) (fun _ => cH h B ca cb) (fun i => i ≤ (r 2).toNat ∧ ∀ j, j < i → sThere r R S c false j = false) (fun i => (r 2).toNat - i) (fun z => z = some (if sCel r R S c false = -1 then none else some (cSl B s + 5 + (sCel r R S c false).toNat), cH h B ca cb)) ?_ N 0 ⟨by omega, fun j hj => by omega⟩ (by omega)
  · exact key
  · rintro K i ⟨p1, p2⟩
    by_cases e : i = (r 2).toNat
    · left
      have z : sCel r R S c false = -1 := aF_none (by rw [← e]; exact p2)
      rw [eq_X5_lierAt_3, ch_g4 hs, Option.bind_some, l4 lv 2 (by omega) (by omega), if_pos ((iI_le ⟨by omega, by omega⟩ ⟨by omega, by omega⟩).mpr (by omega)), if_pos z]
    · have step : sThere r R S c false i = false → ∃ s', (s' ≤ (r 2).toNat ∧ ∀ j, j < s' → sThere r R S c false j = false) ∧ (r 2).toNat - s' < (r 2).toNat - i ∧ K [some (.ref (cSl B s)), some (.int (iI R)), some (.int (iI S)), some (.ref (cSl B s + 5 + c)), some (.int (iI ((i : Int) + 1)))] [] (cH h B ca cb) = K [some (.ref (cSl B s)), some (.int (iI R)), some (.int (iI S)), some (.ref (cSl B s + 5 + c)), some (.int (iI ((s' : Nat) : Int)))] [] (cH h B ca cb) := by
        intro q
        refine ⟨i + 1, ⟨by omega, fun j hj => ?_⟩, by omega, by rw [show ((i + 1 : Nat) : Int) = (i : Int) + 1 by omega]⟩
        by_cases ej : j = i
        · subst ej; exact q
        · exact p2 j (by omega)
      rw [eq_X5_lierAt_3, ch_g4 hs, Option.bind_some, l4 lv 2 (by omega) (by omega), if_neg (fun z => by have := (iI_le ⟨by omega, by omega⟩ ⟨by omega, by omega⟩).mp z; omega), ch_r0 hs, Option.bind_some, ch_cell hs (by omega), Option.bind_some, eq_X5_lierAt_46, iI_add]
      by_cases q1 : i = c
      · right
        rw [if_pos (by omega)]
        refine step ?_
        unfold sThere
        rw [decide_eq_false (by omega), Bool.false_and]
      · rw [if_neg (by omega), Option.bind_some, ch_cell hs (by omega), Option.bind_some, if_pos (ce_isc hs (by omega)), d_lies hs lv ok (by omega) (by omega) hS, Option.bind_some, eq_X5_lierAt_46, iI_add]
        dsimp only
        by_cases q2 : sCov r R S i = true
        · left
          have cv := sCov_iff.mp q2
          have z : sCel r R S c false = i := by
            unfold sCel
            refine aL_uniq (by omega) ?_ ?_
            · unfold sThere
              rw [decide_eq_true (show ¬ (i : Int) = c by omega), q2]
              rfl
            · intro j hj hp
              unfold sThere at hp
              simp only [Bool.and_eq_true] at hp
              have cj := sCov_iff.mp hp.2.1
              by_cases e2 : (j : Int) = i
              · omega
              · have := ov i j (by omega) (by omega) (by omega) (by omega) (by omega) (by omega) (by rw [cv.1, cj.1])
                omega
          rw [if_neg (by rw [q2]; exact tb1), ch_r0 hs, Option.bind_some, ch_cell hs (by omega), Option.bind_some, z, if_neg (by omega), Int.toNat_natCast]
        · right
          have q2' : sCov r R S i = false := by simpa using q2
          rw [q2', if_pos (by rfl)]
          refine step ?_
          unfold sThere
          rw [q2', Bool.false_and, Bool.and_false]
end C3
