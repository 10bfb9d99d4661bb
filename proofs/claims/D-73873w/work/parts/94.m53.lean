/-! ===== the model: fillers ===== -/
section M53
variable {N : Nat} {h : ka_H} {a : Nat} {mf : Nat → Int} {ma : Nat → Int → Int}
theorem c_fil109 {w n k g s : Int} (K30 K49 : ka_K (Int32 × ka_H)) (hw : w = 4 ∨ w = 2 ∨ w = 1) (hg : 0 ≤ g ∧ g ≤ 1000) : cm_X9_fillers_109 N K30 K49 [some (.ref a), some (.int (iI w)), some (.int (iI n)), some (.int (iI k)), some (.int (iI g)), some (.int (iI s))] [] (mH h a mf ma) = K49 [some (.ref a), some (.int (iI w)), some (.int (iI (n + sFq w g))), some (.int (iI k)), some (.int (iI 0)), some (.int (iI (s + 1)))] [] (mH h a mf ma) := by
  rw [eq_X9_fillers_109]
  unfold sFq
  rcases hw with e | e | e
  · subst e
    rw [if_neg (fun z => z rfl), if_neg (by decide), iI_dv (by omega) (by omega), eq_X9_fillers_140, eq_X9_fillers_145, iI_add, iI_add, if_pos rfl]
  · subst e
    rw [if_pos (c := ¬ iI 2 = iI 4) (by decide), if_neg (fun z => z rfl), if_neg (by decide), if_neg (by decide), iI_rm (by omega) (by omega), iI_dv (by omega) (by omega), eq_X9_fillers_140, eq_X9_fillers_145, iI_add, iI_add, if_neg (c := (2 : Int) = 4) (by decide), if_pos rfl]
  · subst e
    rw [if_pos (c := ¬ iI 1 = iI 4) (by decide), if_pos (c := ¬ iI 1 = iI 2) (by decide), if_neg (by decide), iI_rm (by omega) (by omega), eq_X9_fillers_140, eq_X9_fillers_145, iI_add, iI_add, if_neg (c := (1 : Int) = 4) (by decide), if_neg (c := (1 : Int) = 2) (by decide)]
theorem c_fillers {w : Int} (hN : 5000 ≤ N) (ok : rOk (ma 2)) (sz : mSz mf) (hw0 : -2147483648 ≤ w ∧ w < 2147483648) :
    ∃ mf' ma', mNilP mf ma mf' ma' ∧ fm_X9_fillers N [.ref a, .int (iI w)] (mH h a mf ma) = some (iI (if w = 4 ∨ w = 2 ∨ w = 1 then sFls (ma 2) w (lAll (mf 2) (mf 3) (ma 2) (mf 2).toNat) (lAll (mf 2) (mf 3) (ma 2) (mf 2).toNat).length else -1), mH h a mf' ma') := by
  have g2 := ok.2.2.2.1
  have hL := lAll_lOk (r := ma 2) ok sz.1 sz.2
  have sz0 : mSz (mF mf 0 0) := sz
  have e2 : mF mf 0 0 2 = mf 2 := rfl
  have e3 : mF mf 0 0 3 = mf 3 := rfl
  rw [en_X9_fillers, eq_X9_fillers_0, m_p0, Option.bind_some]
  by_cases hw : w = 4 ∨ w = 2 ∨ w = 1
  · have go : (if iI w = iI 4 then cm_X9_fillers_22 N [some (.ref a), some (.int (iI w))] [] (mH h a (mF mf 0 0) ma) else if iI w = iI 2 then cm_X9_fillers_22 N [some (.ref a), some (.int (iI w))] [] (mH h a (mF mf 0 0) ma) else if iI w = iI 1 then cm_X9_fillers_22 N [some (.ref a), some (.int (iI w))] [] (mH h a (mF mf 0 0) ma) else some (iI (-1), mH h a (mF mf 0 0) ma)) = cm_X9_fillers_22 N [some (.ref a), some (.int (iI w))] [] (mH h a (mF mf 0 0) ma) := by
      rcases hw with e | e | e <;> subst e <;> simp
    rw [go, if_pos hw]
    have lr := c_layRuns (N := N) (h := h) (a := a) (mf := mF mf 0 0) (ma := ma) hN ok sz0
    rw [e2, e3] at lr
    generalize hLL : lAll (mf 2) (mf 3) (ma 2) (mf 2).toNat = L at hL lr
    have l1 := hL.1
    rw [eq_X9_fillers_22, if_pos m_isc, lr, Option.bind_some, mHR]
    have rn := mRun_lay (mF mf 0 0) ma L
    have nil1 : mNilP mf ma (mF (mF mf 0 0) 18 L.length) (mRuns ma L) := ⟨⟨rfl, rfl, rfl, rfl, rfl, rfl⟩, mRuns_n (by omega), mRuns_n (by omega), mRuns_n (by omega), mRuns_n (by omega), mRuns_n (by omega), mRuns_n (by omega)⟩
    generalize hmf : mF (mF mf 0 0) 18 L.length = mf1 at rn nil1
    generalize hma : mRuns ma L = ma1 at rn nil1
    have r2 : ma1 2 = ma 2 := nil1.2.2.2.1
    refine ⟨mf1, ma1, nil1, ?_⟩
    refine fix_up (fun i => [some (.ref a), some (.int (iI w)), some (.int (iI (sFls (ma 2) w L i))), some (.int (iI i))]) (fun _ => mH h a mf1 ma1) L.length ?_ ?_ N 0 (by omega) (by omega)
    · intro K
      rw [eq_X9_fillers_30, m_g18, Option.bind_some, rn.1, if_pos ((iI_le ⟨by omega, by omega⟩ ⟨by omega, by omega⟩).mpr (by omega))]
    · intro K k hk
      have hx : L[k]? = some (L[k]'hk) := List.getElem?_eq_getElem hk
      generalize L[k]'hk = x at hx
      have hxx := hL.2 x (List.mem_of_getElem? hx)
      obtain ⟨x8, x9, x10, x11⟩ := rn.2 k x hx
      have ek : ((k + 1 : Nat) : Int) = (k : Int) + 1 := by omega
      rw [eq_X9_fillers_30, m_g18, Option.bind_some, rn.1, if_neg (fun z => by have := (iI_le ⟨by omega, by omega⟩ ⟨by omega, by omega⟩).mp z; omega), m_r16, Option.bind_some, m_l16 (by omega) (by omega), Option.bind_some, x10, sFls, hx]
      dsimp only
      have key := fix_up (B := cm_X9_fillers_49 N K) (R := K [some (.ref a), some (.int (iI w)), some (.int (iI (sFl (ma 2) w x.1 x.2.2.1 x.2.2.2 (sFls (ma 2) w L k) (x.2.2.2.toNat + 1)).1)), some (.int (iI ((k + 1 : Nat) : Int)))] [] (mH h a mf1 ma1)) (fun i => [some (.ref a), some (.int (iI w)), some (.int (iI (sFl (ma 2) w x.1 x.2.2.1 x.2.2.2 (sFls (ma 2) w L k) i).1)), some (.int (iI k)), some (.int (iI (sFl (ma 2) w x.1 x.2.2.1 x.2.2.2 (sFls (ma 2) w L k) i).2)), some (.int (iI (x.2.2.1 + i)))]) (fun _ => mH h a mf1 ma1) (x.2.2.2.toNat + 1) ?_ ?_ N 0 (by omega) (by omega)
      · simp only [Int.natCast_zero, Int.add_zero, sFl] at key
        exact key
      · intro K2
        rw [eq_X9_fillers_49, m_r16, Option.bind_some, m_l16 (by omega) (by omega), Option.bind_some, m_r17, Option.bind_some, m_l17 (by omega) (by omega), Option.bind_some, x10, x11, iI_add, if_pos ((iI_lt ⟨by omega, by omega⟩ ⟨by omega, by omega⟩).mpr (by omega)), iI_add, ek]
      · intro K2 i hi
        have bg := sFl_b (ma 2) w x.1 x.2.2.1 x.2.2.2 (sFls (ma 2) w L k) i
        have ei : x.2.2.1 + ((i + 1 : Nat) : Int) = x.2.2.1 + (i : Int) + 1 := by omega
        have ct := c_cellThere (N := N) (h := h) (a := a) (mf := mf1) (ma := ma1) (R := x.1) (S := x.2.2.1 + i) (but := -1) (fx := false) hN (by rw [r2]; exact ok.1) (by rw [r2]; exact g2) (by omega) (by omega) (by omega)
        rw [show (if false = true then iI 1 else iI 0) = iI 0 from rfl, r2] at ct
        have bt := sCel_b (ma 2) x.1 (x.2.2.1 + i) (-1) false g2.2
        rw [eq_X9_fillers_49, m_r16, Option.bind_some, m_l16 (by omega) (by omega), Option.bind_some, m_r17, Option.bind_some, m_l17 (by omega) (by omega), Option.bind_some, x10, x11, iI_add, if_neg (fun z => by have := (iI_lt ⟨by omega, by omega⟩ ⟨by omega, by omega⟩).mp z; omega), Option.bind_some, m_l16 (by omega) (by omega), Option.bind_some, Option.bind_some, m_l17 (by omega) (by omega), Option.bind_some, x10, x11, iI_add, sFl, ei]
        by_cases q1 : (i : Int) < x.2.2.2
        · rw [if_neg (fun z => by have := (iI_le ⟨by omega, by omega⟩ ⟨by omega, by omega⟩).mp z; omega), m_r14, Option.bind_some, m_l14 (by omega) (by omega), Option.bind_some, x8, if_pos m_isc, ct, Option.bind_some]
          dsimp only
          by_cases q2 : sCel (ma 2) x.1 (x.2.2.1 + i) (-1) false = -1
          · rw [if_neg (fun z => z (by rw [q2])), if_pos (And.intro q1 q2), eq_X9_fillers_145, iI_add, iI_add]
          · rw [if_pos (c := ¬ iI (sCel (ma 2) x.1 (x.2.2.1 + i) (-1) false) = iI (-1)) (by rw [iI_eq ⟨by omega, by omega⟩ ⟨by omega, by omega⟩]; exact q2), if_neg (fun z => q2 z.2), c_fil109 K K2 hw (by omega)]
        · rw [if_pos ((iI_le ⟨by omega, by omega⟩ ⟨by omega, by omega⟩).mpr (by omega)), if_neg (fun z => q1 z.1), c_fil109 K K2 hw (by omega)]
  · rw [if_neg (c := iI w = iI 4) (by rw [iI_eq ⟨by omega, by omega⟩ ⟨by omega, by omega⟩]; omega), if_neg (c := iI w = iI 2) (by rw [iI_eq ⟨by omega, by omega⟩ ⟨by omega, by omega⟩]; omega), if_neg (c := iI w = iI 1) (by rw [iI_eq ⟨by omega, by omega⟩ ⟨by omega, by omega⟩]; omega), if_neg hw]
    exact ⟨mF mf 0 0, ma, ⟨⟨rfl, rfl, rfl, rfl, rfl, rfl⟩, rfl, rfl, rfl, rfl, rfl, rfl⟩, rfl⟩
end M53
