/-! ===== the model: shake, whole ===== -/
theorem mF_F (mf : Nat → Int) (k : Nat) (x y : Int) : mF (mF mf k x) k y = mF mf k y := by
  funext j
  by_cases e : j = k <;> simp [mF, e]
section M48
variable {N : Nat} {h : ka_H} {a : Nat} {mf : Nat → Int} {ma : Nat → Int → Int}
theorem c_shake186 {seed n heat hot had least k l8 l9 : Int} {q A6 : Int → Int} (K104 : ka_K (Int32 × ka_H)) (hN : 5000 ≤ N) (v : vOk q) (tm : tmOk (ma 1)) (hh : 0 ≤ hot ∧ hot ≤ 9999) (hl : 0 ≤ least ∧ least ≤ 77760000) :
    ∃ A6', (∀ j, 0 ≤ j → j < 400 → A6' j = if sWire (ma 1 4) q < least then q j else A6 j) ∧ cm_X9_shake_186 N K104 [some (.ref a), some (.int (iI seed)), some (.int (iI n)), some (.int (iI heat)), some (.int (iI hot)), some (.int (iI had)), some (.int (iI least)), some (.int (iI k)), some (.int (iI l8)), some (.int (iI l9))] [] (mH h a mf (mA (mA ma 6 A6) 2 q)) = K104 [some (.ref a), some (.int (iI seed)), some (.int (iI n)), some (.int (iI heat)), some (.int (iI (7 * hot / 8))), some (.int (iI had)), some (.int (iI (if sWire (ma 1 4) q < least then sWire (ma 1 4) q else least))), some (.int (iI (k + 1)))] [] (mH h a mf (mA (mA ma 6 A6') 2 q)) := by
  have t4 := tm.2.2.2.2.1
  have bw := sWire_b t4 v
  have w1 := c_wireV (N := N) (h := h) (a := a) (mf := mf) (ma := mA ma 6 A6) hN v
  rw [mA_n (by decide)] at w1
  rw [eq_X9_shake_186, if_neg (by decide), if_pos m_isc, w1, Option.bind_some, iI_mul, iI_dv (by omega) (by omega)]
  dsimp only
  by_cases q1 : sWire (ma 1 4) q < least
  · refine ⟨rCp q A6 0 0 400, fun j j0 j1 => by rw [if_pos q1, rCp_00 j0 j1], ?_⟩
    rw [if_neg (fun z => by have := (iI_le ⟨by omega, by omega⟩ ⟨by omega, by omega⟩).mp z; omega), if_pos m_isc, w1, Option.bind_some]
    dsimp only
    rw [m_r6, Option.bind_some, m_r11, Option.bind_some, c_copy (p := 2) (q := 6) hN (by decide) (by decide) (by decide) (by omega) (by omega) (by simp [mLen]) (by simp [mLen]), Option.bind_some, mA_2, mA_n (by decide), mA_2, mA_c (p := 2) (q := 6) (by decide), mA_mA, eq_X9_shake_224, iI_add, if_pos q1]
  · refine ⟨A6, fun j j0 j1 => by rw [if_neg q1], ?_⟩
    rw [if_pos ((iI_le ⟨by omega, by omega⟩ ⟨by omega, by omega⟩).mpr (by omega)), eq_X9_shake_224, iI_add, if_neg q1]
theorem c_shake {seed n heat : Int} (hN : 5000 ≤ N) (v : vOk (ma 2)) (tm : tmOk (ma 1)) (h9 : 0 ≤ mf 9 ∧ mf 9 ≤ 12) (h1 : -2147483648 ≤ seed ∧ seed < 2147483648) (h2 : -2147483648 ≤ n ∧ n < 2147483648) (h3 : -2147483648 ≤ heat ∧ heat < 2147483648) :
    if ((vIn seed 0 1000000 && vIn n 1 60) && vIn heat 0 9999) = true then
      (if ma 2 2 = 0 then fm_X9_shake N [.ref a, .int (iI seed), .int (iI n), .int (iI heat)] (mH h a mf ma) = some (iI (-4), mNo h a mf ma (-4))
      else ∃ mf' ma', mYesP mf ma 17 (sShk (ma 1 4) (ma 2) seed heat n.toNat).2.2.2.2 mf' ma' ∧ fm_X9_shake N [.ref a, .int (iI seed), .int (iI n), .int (iI heat)] (mH h a mf ma) = some (iI (sWire (ma 1 4) (ma 2) - (sShk (ma 1 4) (ma 2) seed heat n.toNat).2.2.2.1), mH h a mf' ma'))
    else fm_X9_shake N [.ref a, .int (iI seed), .int (iI n), .int (iI heat)] (mH h a mf ma) = some (iI (-1), mNo h a mf ma (-1)) := by
  have no1 := c_no (N := N) (h := h) (a := a) (mf := mf) (ma := ma) (v := -1) (by omega)
  have no4 := c_no (N := N) (h := h) (a := a) (mf := mf) (ma := ma) (v := -4) (by omega)
  have g2 := v.1.2.2.2.1
  have t4 := tm.2.2.2.2.1
  rw [en_X9_shake, eq_X9_shake_0, m_p0, Option.bind_some, iI_long h1.1 h1.2, c_in (by omega) (by omega) (by omega) (by omega) (by omega) (by omega), Option.bind_some]
  dsimp only
  by_cases q1 : vIn seed 0 1000000 = true
  · rw [if_neg (c := (if vIn seed 0 1000000 = true then iI 1 else iI 0) = iI 0) (by rw [q1]; exact tb1), iI_long h2.1 h2.2, c_in (by omega) (by omega) (by omega) (by omega) (by omega) (by omega), Option.bind_some, q1, Bool.true_and]
    dsimp only
    by_cases q2 : vIn n 1 60 = true
    · rw [if_neg (c := (if vIn n 1 60 = true then iI 1 else iI 0) = iI 0) (by rw [q2]; exact tb1), iI_long h3.1 h3.2, c_in (by omega) (by omega) (by omega) (by omega) (by omega) (by omega), Option.bind_some, q2, Bool.true_and]
      dsimp only
      by_cases q3 : vIn heat 0 9999 = true
      · have b1 := of_decide_eq_true q1
        have b2 := of_decide_eq_true q2
        have b3 := of_decide_eq_true q3
        rw [if_pos q3, if_pos (c := ¬ (if vIn heat 0 9999 = true then iI 1 else iI 0) = iI 0) (by rw [q3]; exact tb1), m_r6, Option.bind_some, m_l6 (by omega) (by omega), Option.bind_some]
        by_cases q4 : ma 2 2 = 0
        · rw [if_pos q4, if_neg (by rw [q4]; exact fun z => z rfl), no4]
        · rw [if_neg q4, if_pos (by rw [iI_eq ⟨by omega, by omega⟩ ⟨by omega, by omega⟩]; exact q4), if_pos m_isc, c_rem0 hN h9, Option.bind_some, m_p35, Option.bind_some]
          generalize hm1 : mF (mF mf 0 0) 9 (if mf 9 = 12 then 12 else mf 9 + 1) = mf1
          have e1 : mRem mf ma 17 1 = ma 1 := mRem_n (by decide) (by decide)
          have es : mA (mRem mf ma 17) 2 (ma 2) = mRem mf ma 17 := by
            have : ma 2 = mRem mf ma 17 2 := (mRem_2 mf ma 17).symm
            rw [this, mA_self]
          have w0 := c_wireV (N := N) (h := h) (a := a) (mf := mF mf1 35 seed) (ma := mRem mf ma 17) hN v
          rw [es, e1] at w0
          rw [if_pos m_isc, w0, Option.bind_some]
          dsimp only
          rw [eq_X9_shake_88, m_r6, Option.bind_some, m_r11, Option.bind_some, c_copy (p := 2) (q := 6) hN (by decide) (by decide) (by decide) (by omega) (by omega) (by simp [mLen]) (by simp [mLen]), Option.bind_some, mRem_2]
          have e6 : mA (mRem mf ma 17) 6 (rCp (ma 2) (mRem mf ma 17 6) 0 0 400) = mA (mA (mRem mf ma 17) 6 (rCp (ma 2) (mRem mf ma 17 6) 0 0 400)) 2 (ma 2) := by
            rw [mA_c (p := 6) (q := 2) (by decide), es]
          rw [e6]
          have ok := sShk_ok (tall := ma 1 4) (seed := seed) (heat := heat) t4 v (by omega) (by omega) (by omega)
          have key := fix_ms (B := cm_X9_shake_104 N) (fun x : Nat × (Int → Int) => [some (.ref a), some (.int (iI seed)), some (.int (iI n)), some (.int (iI heat)), some (.int (iI (sShk (ma 1 4) (ma 2) seed heat x.1).2.2.1)), some (.int (iI (sWire (ma 1 4) (ma 2)))), some (.int (iI (sShk (ma 1 4) (ma 2) seed heat x.1).2.2.2.1)), some (.int (iI x.1))]) (fun x => mH h a (mF mf1 35 (sShk (ma 1 4) (ma 2) seed heat x.1).2.1) (mA (mA (mRem mf ma 17) 6 x.2) 2 (sShk (ma 1 4) (ma 2) seed heat x.1).1)) (fun x => x.1 ≤ n.toNat ∧ ∀ j, 0 ≤ j → j < 400 → x.2 j = (sShk (ma 1 4) (ma 2) seed heat x.1).2.2.2.2 j) (fun x => n.toNat - x.1) (fun z => ∃ mf' ma', mYesP mf ma 17 (sShk (ma 1 4) (ma 2) seed heat n.toNat).2.2.2.2 mf' ma' ∧ z = some (iI (sWire (ma 1 4) (ma 2) - (sShk (ma 1 4) (ma 2) seed heat n.toNat).2.2.2.1), mH h a mf' ma')) ?_ N (0, rCp (ma 2) (mRem mf ma 17 6) 0 0 400) ⟨by dsimp only; omega, fun j j0 j1 => rCp_00 j0 j1⟩ (by dsimp only; omega)
          · exact key
          · rintro K ⟨k, A6⟩ ⟨p1, p2⟩
            dsimp only at p1 p2 ⊢
            obtain ⟨o1, o2, o3, o4, o5, o6⟩ := ok k
            by_cases e : k = n.toNat
            · left
              subst e
              have er : rCp A6 (sShk (ma 1 4) (ma 2) seed heat n.toNat).1 0 0 400 = (sShk (ma 1 4) (ma 2) seed heat n.toNat).2.2.2.2 := by
                funext j
                by_cases ej : 0 ≤ j ∧ j < 400
                · rw [rCp_00 ej.1 ej.2, p2 j ej.1 ej.2]
                · unfold rCp
                  rw [if_neg (by omega), o1.2 j (by omega), o5.2 j (by omega)]
              refine ⟨mF (mF mf1 35 (sShk (ma 1 4) (ma 2) seed heat n.toNat).2.1) 1 0, mA (mA (mRem mf ma 17) 6 A6) 2 (sShk (ma 1 4) (ma 2) seed heat n.toNat).2.2.2.2, ⟨⟨?_, mF_s _ _ _, ?_, ?_, ?_, ?_⟩, ?_, ?_, mA_2 _ _ _, ?_, ?_, ?_⟩, ?_⟩
              · rw [← hm1]; rfl
              · rw [← hm1]; rfl
              · rw [← hm1]; rfl
              · rw [← hm1]; rfl
              · rw [← hm1]; rfl
              · rw [mA_n (by decide), mA_n (by decide), mRem_n (by decide) (by decide)]
              · rw [mA_n (by decide), mA_n (by decide), mRem_n (by decide) (by decide)]
              · rw [mA_n (by decide), mA_n (by decide)]
              · rw [mA_n (by decide), mA_n (by decide)]
              · rw [mA_n (by decide), mA_n (by decide), mRem_n (by decide) (by decide)]
              · rw [eq_X9_shake_104, if_pos ((iI_le ⟨by omega, by omega⟩ ⟨by omega, by omega⟩).mpr (by omega)), m_r11, Option.bind_some, m_r6, Option.bind_some, c_copy (p := 6) (q := 2) hN (by decide) (by decide) (by decide) (by omega) (by omega) (by simp [mLen]) (by simp [mLen]), Option.bind_some, mA_2, mA_n (by decide), mA_2, mA_mA, er, if_pos m_isc, c_tell, Option.bind_some, iI_sub]
            · right
              have e2 : (sShk (ma 1 4) (ma 2) seed heat k).1 2 = ma 2 2 := o1.2 2 (by omega)
              generalize hx : sShk (ma 1 4) (ma 2) seed heat k = x at o1 o2 o3 o4 o5 o6 e2 p2
              have m1 : 0 ≤ sNx x.2.1 % ma 2 2 ∧ sNx x.2.1 % ma 2 2 < ma 2 2 := ⟨Int.emod_nonneg _ (by omega), Int.emod_lt_of_pos _ (by omega)⟩
              have m2 : 0 ≤ sNx (sNx x.2.1) % ma 2 2 ∧ sNx (sNx x.2.1) % ma 2 2 < ma 2 2 := ⟨Int.emod_nonneg _ (by omega), Int.emod_lt_of_pos _ (by omega)⟩
              have nb := sNx_b x.2.1
              obtain ⟨y, hy⟩ : ∃ y : Nat, sNx x.2.1 % ma 2 2 = y := ⟨(sNx x.2.1 % ma 2 2).toNat, by omega⟩
              obtain ⟨z, hz⟩ : ∃ z : Nat, sNx (sNx x.2.1) % ma 2 2 = z := ⟨(sNx (sNx x.2.1) % ma 2 2).toNat, by omega⟩
              have hnext : sShk (ma 1 4) (ma 2) seed heat (k + 1) = (rSh1 (ma 1 4) x.1 x.2.2.1 y z, sNx (sNx x.2.1), 7 * x.2.2.1 / 8, (if sWire (ma 1 4) (rSh1 (ma 1 4) x.1 x.2.2.1 y z) < x.2.2.2.1 then sWire (ma 1 4) (rSh1 (ma 1 4) x.1 x.2.2.1 y z) else x.2.2.2.1), (if sWire (ma 1 4) (rSh1 (ma 1 4) x.1 x.2.2.1 y z) < x.2.2.2.1 then rSh1 (ma 1 4) x.1 x.2.2.1 y z else x.2.2.2.2)) := by
                rw [sShk, hx, hy, hz, Int.toNat_natCast, Int.toNat_natCast]
              have vs := rSh1_ok (tall := ma 1 4) (hot := x.2.2.1) (a := y) (b := z) o1.1 (by omega) (by omega)
              obtain ⟨A6', t1, t2⟩ := c_shake186 (N := N) (h := h) (a := a) (mf := mF mf1 35 (sNx (sNx x.2.1))) (ma := mRem mf ma 17) (seed := seed) (n := n) (heat := heat) (hot := x.2.2.1) (had := sWire (ma 1 4) (ma 2)) (least := x.2.2.2.1) (k := k) (l8 := y) (l9 := z) (q := rSh1 (ma 1 4) x.1 x.2.2.1 y z) (A6 := A6) K hN vs.1 (by rw [e1]; exact tm) o3 o4
              rw [e1] at t1 t2
              refine ⟨(k + 1, A6'), ⟨by dsimp only; omega, ?_⟩, by dsimp only; omega, ?_⟩
              · intro j j0 j1
                dsimp only
                rw [hnext, t1 j j0 j1]
                dsimp only
                split
                · rfl
                · exact p2 j j0 j1
              · dsimp only
                rw [hnext, show ((k + 1 : Nat) : Int) = (k : Int) + 1 by omega]
                dsimp only
                rw [← t2]
                have d1 := c_draw (N := N) (h := h) (a := a) (mf := mF mf1 35 x.2.1) (ma := mA (mA (mRem mf ma 17) 6 A6) 2 x.1) (n := ma 2 2) (by rw [mF_s]; exact o2) (by omega)
                rw [mF_s, mF_F, hy] at d1
                have d2 := c_draw (N := N) (h := h) (a := a) (mf := mF mf1 35 (sNx x.2.1)) (ma := mA (mA (mRem mf ma 17) 6 A6) 2 x.1) (n := ma 2 2) (by rw [mF_s]; omega) (by omega)
                rw [mF_s, mF_F, hz] at d2
                have cl := c_areLike (N := N) (h := h) (a := a) (mf := mF mf1 35 (sNx (sNx x.2.1))) (ma := mA (mA (mRem mf ma 17) 6 A6) 2 x.1) (x := y) (y := z) (by rw [mA_2]; exact o1.1.1) (by omega) (by omega)
                rw [mA_2] at cl
                have ve := vOk_exch (a := y) (b := z) o1.1 (by omega) (by omega)
                have w1 := c_wireV (N := N) (h := h) (a := a) (mf := mF mf1 35 (sNx (sNx x.2.1))) (ma := mA (mRem mf ma 17) 6 A6) hN o1.1
                have w2 := c_wireV (N := N) (h := h) (a := a) (mf := mF mf1 35 (sNx (sNx x.2.1))) (ma := mA (mRem mf ma 17) 6 A6) hN ve
                rw [mA_n (by decide), e1] at w1 w2
                have bw1 := sWire_b t4 o1.1
                have bw2 := sWire_b t4 ve
                rw [eq_X9_shake_104, if_neg (fun u => by have := (iI_le ⟨by omega, by omega⟩ ⟨by omega, by omega⟩).mp u; omega), m_r6, Option.bind_some, m_l6 (by omega) (by omega), Option.bind_some, mA_2, e2, if_pos m_isc, d1, Option.bind_some]
                dsimp only
                rw [m_r6, Option.bind_some, m_l6 (by omega) (by omega), Option.bind_some, mA_2, e2, if_pos m_isc, d2, Option.bind_some]
                dsimp only
                by_cases r1 : y = z
                · have er : rSh1 (ma 1 4) x.1 x.2.2.1 y z = x.1 := if_neg (fun u => u.1.1 r1)
                  rw [if_pos (by rw [r1]), er]
                · rw [if_neg (by rw [iI_eq ⟨by omega, by omega⟩ ⟨by omega, by omega⟩]; omega), if_pos m_isc, cl, Option.bind_some]
                  dsimp only
                  by_cases r2 : sLike x.1 y z = true
                  · rw [if_neg (by rw [r2]; exact tb1), if_pos m_isc, w1, Option.bind_some]
                    dsimp only
                    rw [if_pos m_isc, c_exchangeSpots (by omega) (by omega), Option.bind_some, mA_2, mA_mA, if_pos m_isc, w2, Option.bind_some, iI_add]
                    dsimp only
                    by_cases r3 : sWire (ma 1 4) (rExch x.1 y z) ≤ sWire (ma 1 4) x.1 + x.2.2.1
                    · have er : rSh1 (ma 1 4) x.1 x.2.2.1 y z = rExch x.1 y z := if_pos ⟨⟨r1, r2⟩, r3⟩
                      rw [if_pos ((iI_le ⟨by omega, by omega⟩ ⟨by omega, by omega⟩).mpr r3), er]
                    · have er : rSh1 (ma 1 4) x.1 x.2.2.1 y z = x.1 := if_neg (fun u => r3 u.2)
                      rw [if_neg (fun u => r3 ((iI_le ⟨by omega, by omega⟩ ⟨by omega, by omega⟩).mp u)), eq_X9_shake_181, if_pos m_isc, c_exchangeSpots (by omega) (by omega), Option.bind_some, mA_2, mA_mA, rExch_exch (by omega), er]
                  · have er : rSh1 (ma 1 4) x.1 x.2.2.1 y z = x.1 := if_neg (fun u => r2 u.1.2)
                    rw [if_pos (by simp [r2]), er]
      · rw [if_neg q3, if_neg (by simp [q3]), eq_X9_shake_41, no1]
    · rw [if_neg (by simp [q2]), if_pos (by simp [q2]), eq_X9_shake_41, no1]
  · rw [if_neg (by simp [q1]), if_pos (by simp [q1]), eq_X9_shake_41, no1]
end M48
