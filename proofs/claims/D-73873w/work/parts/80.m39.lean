/-! ===== the model: makeLawful, legal, lawfully ===== -/
theorem nodup_ne {l : List Int} (h : l.Nodup) {i j : Nat} (hi : i < l.length) (hj : j < l.length) (hij : i ≠ j) : l[i] ≠ l[j] := by
  have := List.pairwise_iff_getElem.mp h
  rcases Nat.lt_or_gt_of_ne hij with z | z
  · exact this i j hi hj z
  · exact (this j i hj hi z).symm
section M39
variable {N : Nat} {h : ka_H} {a : Nat} {mf : Nat → Int} {ma : Nat → Int → Int}
/-- all but scratch; the row -/
def mS (mf : Nat → Int) (ma : Nat → Int → Int) (mf' : Nat → Int) (ma' : Nat → Int → Int) : Prop := (∀ k, k = 0 ∨ k = 1 ∨ k = 2 ∨ k = 3 ∨ k = 9 ∨ k = 13 → mf' k = mf k) ∧ (∀ p, p = 0 ∨ p = 1 ∨ p = 3 ∨ p = 4 ∨ p = 5 ∨ p = 6 ∨ p = 7 → ma' p = ma p)
theorem vOk_x {r r' : Int → Int} (h : sameX r r') (v : vOk r) (hB : rB r') : vOk r' := vOk_of v hB (fun j hj => h j (by omega))
theorem c_make83 (b : Int → Int) (L : List (Int × Int × Int × Int)) (C : Int → List Int) (n : Nat) (hN : 5000 ≤ N) (ok : rOk b) (hb : ma 2 = b) (rn : mRun mf ma L) (hL : lOk 8 32 L) (h22 : mf 22 = n) (hn : n ≤ 20) (hQ : ∀ i : Nat, i < n → 0 ≤ ma 13 i ∧ ma 13 i < b 2) (hG : ∀ i : Nat, i < n → -1 ≤ ma 14 (ma 13 i) ∧ ma 14 (ma 13 i) ≤ 600) (hC : ∀ k : Nat, k < L.length → lSome (ma 13) (ma 14) k n = C k) (hC2 : ∀ k c, c ∈ C k → 0 ≤ c ∧ c < b 2) (hw : ∀ (k : Nat) (x : Int × Int × Int × Int), L[k]? = some x → sW b (C k) ≤ x.2.2.2) :
    ∃ mf' ma', mS mf ma mf' ma' ∧ ma' 2 = rPlA b L C L.length ∧ ki_fix (cm_X9_makeLawful_83 N) N [some (.ref a), some (.int (iI 0))] [] (mH h a mf ma) = some (true, mH h a mf' ma') := by
  have hl1 := hL.1
  have g2 := ok.2.2.2.1
  refine fix_ms (B := cm_X9_makeLawful_83 N) (fun x : Nat × (Nat → Int) × (Nat → Int → Int) => [some (.ref a), some (.int (iI x.1))]) (fun x => mH h a x.2.1 x.2.2) (fun x => x.1 ≤ L.length ∧ mXr mf ma x.2.1 x.2.2 ∧ x.2.2 2 = rPlA b L C x.1) (fun x => L.length - x.1) (fun x => ∃ mf' ma', mS mf ma mf' ma' ∧ ma' 2 = rPlA b L C L.length ∧ x = some (true, mH h a mf' ma')) ?_ N (0, mf, ma) ⟨by dsimp only; omega, ⟨fun _ _ => rfl, fun _ _ _ _ => rfl⟩, hb⟩ (by dsimp only; omega)
  rintro K ⟨k, mf1, ma1⟩ ⟨p1, p2, p3⟩
  dsimp only at p1 p2 p3 ⊢
  have e18 : mf1 18 = L.length := by rw [p2.1 18 (by decide)]; exact rn.1
  by_cases e : k = L.length
  · left
    refine ⟨mf1, ma1, ⟨fun j hj => p2.1 j (by omega), fun p hp => p2.2 p (by omega) (by omega) (by omega)⟩, by rw [p3, e], ?_⟩
    rw [eq_X9_makeLawful_83, m_g18, Option.bind_some, e18, if_pos ((iI_le ⟨by omega, by omega⟩ ⟨by omega, by omega⟩).mpr (by omega))]
  · right
    obtain ⟨x, hx⟩ : ∃ x, L[k]? = some x := ⟨L[k]'(by omega), List.getElem?_eq_getElem (by omega)⟩
    have hxx := hL.2 x (List.mem_of_getElem? hx)
    obtain ⟨o1, o2⟩ := rPlA_ok (L := L) (C := C) ok hL hC2 hw k
    have ok1 : rOk (ma1 2) := by rw [p3]; exact rOk_x o2 ok o1
    have e2 : ma1 2 2 = b 2 := by rw [p3]; exact o2 2 (by omega)
    have e13 : ma1 13 = ma 13 := p2.2 13 (by decide) (by decide) (by decide)
    have e14 : ma1 14 = ma 14 := p2.2 14 (by decide) (by decide) (by decide)
    have rn1 : mRun mf1 ma1 L := by
      refine ⟨e18, ?_⟩
      intro j y hy
      rw [p2.2 8 (by decide) (by decide) (by decide), p2.2 9 (by decide) (by decide) (by decide), p2.2 10 (by decide) (by decide) (by decide), p2.2 11 (by decide) (by decide) (by decide)]
      exact rn.2 j y hy
    have sx : sameX b (ma1 2) := by rw [p3]; exact o2
    have hc20 : ∀ c, c ∈ C k → 0 ≤ c ∧ c < 20 := fun c hc => by have := hC2 k c hc; omega
    obtain ⟨mf2, ma2, y1, y2, y3⟩ := c_placeRun (N := N) (h := h) (a := a) (mf := mf1) (ma := ma1) L x k (C k) n hN ok1 rn1 hL hx (by rw [p2.1 22 (by decide)]; exact h22) hn (by rw [e13, e2]; exact hQ) (by rw [e13, e14]; exact hG) (by rw [e13, e14]; exact hC k (by omega)) (by rw [e2]; exact hC2 k) (by rw [sW_x sx hc20]; exact hw k x hx)
    refine ⟨(k + 1, mf2, ma2), ⟨by dsimp only; omega, ⟨fun j hj => by dsimp only; rw [y1.1 j hj, p2.1 j hj], fun p a1 a2 a3 => by dsimp only; rw [y1.2 p a1 a2 a3, p2.2 p a1 a2 a3]⟩, ?_⟩, by dsimp only; omega, ?_⟩
    · dsimp only
      rw [y2, rPl_x sx hc20, rPlA, hx, p3]
    · dsimp only
      rw [eq_X9_makeLawful_83, m_g18, Option.bind_some, e18, if_neg (fun z => by have := (iI_le ⟨by omega, by omega⟩ ⟨by omega, by omega⟩).mp z; omega), if_pos m_isc, y3, Option.bind_some, iI_add]
      rfl
theorem c_make36 (b : Int → Int) (L : List (Int × Int × Int × Int)) (ql : List Int) (hN : 5000 ≤ N) (v : vOk b) (tm : tmOk (ma 1)) (hb : ma 2 = b) (rn : mRun mf ma L) (hL : lOk 8 32 L) (h22 : mf 22 = ql.length) (hn : ql.length ≤ 20) (hq : ∀ c, c ∈ ql → 0 ≤ c ∧ c < b 2) (hqd : ql.Nodup) (hQ : rIs (ma 13) ql) :
    match sAsg (ma 1 4) b L ql ql.length with
    | none => ∃ mf' ma', mS mf ma mf' ma' ∧ ma' 2 = b ∧ ki_fix (cm_X9_makeLawful_36 N) N [some (.ref a), some (.int (iI 0))] [] (mH h a mf ma) = some (false, mH h a mf' ma')
    | some C => ∃ mf' ma', mS mf ma mf' ma' ∧ ma' 2 = rPlA b L C L.length ∧ ki_fix (cm_X9_makeLawful_36 N) N [some (.ref a), some (.int (iI 0))] [] (mH h a mf ma) = some (true, mH h a mf' ma') := by
  have hl1 := hL.1
  have ok := v.1
  have g2 := ok.2.2.2.1
  have t4 := tm.2.2.2.2.1
  have none_stays : ∀ i j : Nat, i ≤ j → sAsg (ma 1 4) b L ql i = none → sAsg (ma 1 4) b L ql j = none := by
    intro i j hij h0
    induction j with
    | zero =>
      have : i = 0 := by omega
      subst this
      exact h0
    | succ j ih =>
      by_cases e : i = j + 1
      · subst e; exact h0
      · rw [sAsg, ih (by omega)]
  have key := fix_ms (B := cm_X9_makeLawful_36 N) (fun x : Nat × (Int → List Int) × (Nat → Int) × (Nat → Int → Int) => [some (.ref a), some (.int (iI x.1))]) (fun x => mH h a x.2.2.1 x.2.2.2) (fun x => x.1 ≤ ql.length ∧ sAsg (ma 1 4) b L ql x.1 = some x.2.1 ∧ (∀ k, k ≠ 25 → x.2.2.1 k = mf k) ∧ (∀ p, p ≠ 14 → p ≠ 15 → p ≠ 16 → x.2.2.2 p = ma p) ∧ (∀ i : Nat, i < x.1 → -1 ≤ x.2.2.2 14 (ma 13 i) ∧ x.2.2.2 14 (ma 13 i) ≤ 600) ∧ ∀ k : Nat, k < L.length → lSome (ma 13) (x.2.2.2 14) k x.1 = x.2.1 k) (fun x => ql.length - x.1) (fun x => match sAsg (ma 1 4) b L ql ql.length with
    | none => ∃ mf' ma', mS mf ma mf' ma' ∧ ma' 2 = b ∧ x = some (false, mH h a mf' ma')
    | some C => ∃ mf' ma', mS mf ma mf' ma' ∧ ma' 2 = rPlA b L C L.length ∧ x = some (true, mH h a mf' ma')) ?_ N (0, (fun _ => []), mf, ma) ⟨by dsimp only; omega, rfl, fun _ _ => rfl, fun _ _ _ _ => rfl, fun i hi => by dsimp only at hi; omega, fun k _ => rfl⟩ (by dsimp only; omega)
  · exact key
  · rintro K ⟨i, C, mf1, ma1⟩ ⟨p1, p2, p3, p4, p5, p6⟩
    dsimp only at p1 p2 p3 p4 p5 p6 ⊢
    have e2 : ma1 2 = b := by rw [p4 2 (by decide) (by decide) (by decide)]; exact hb
    have e1 : ma1 1 = ma 1 := p4 1 (by decide) (by decide) (by decide)
    have e13 : ma1 13 = ma 13 := p4 13 (by decide) (by decide) (by decide)
    have e22 : mf1 22 = ql.length := by rw [p3 22 (by decide)]; exact h22
    have rn1 : mRun mf1 ma1 L := by
      refine ⟨by rw [p3 18 (by decide)]; exact rn.1, ?_⟩
      intro j y hy
      rw [p4 8 (by decide) (by decide) (by decide), p4 9 (by decide) (by decide) (by decide), p4 10 (by decide) (by decide) (by decide), p4 11 (by decide) (by decide) (by decide)]
      exact rn.2 j y hy
    obtain ⟨c1, c2⟩ := sAsg_ok hL i p1 p2
    have cC : ∀ k c, c ∈ C k → 0 ≤ c ∧ c < b 2 := fun k c hc => hq c (c1 k c hc)
    have hQb : ∀ j : Nat, j < ql.length → 0 ≤ ma 13 j ∧ ma 13 j < b 2 := fun j hj => by
      rw [hQ j hj]
      exact hq _ (List.getElem_mem _)
    by_cases e : i = ql.length
    · left
      subst e
      rw [p2]
      dsimp only
      obtain ⟨mf2, ma2, y1, y2, y3⟩ := c_make83 (N := N) (h := h) (a := a) (mf := mf1) (ma := ma1) b L C ql.length hN ok e2 rn1 hL e22 hn (by rw [e13]; exact hQb) (by rw [e13]; exact p5) (by rw [e13]; exact p6) cC c2
      refine ⟨mf2, ma2, ⟨fun j hj => by rw [y1.1 j hj, p3 j (by omega)], fun p hp => by rw [y1.2 p hp, p4 p (by omega) (by omega) (by omega)]⟩, y2, ?_⟩
      rw [← y3, eq_X9_makeLawful_36, m_g22, Option.bind_some, e22, if_pos ((iI_le ⟨by omega, by omega⟩ ⟨by omega, by omega⟩).mpr (by omega))]
    · have eq : (ql[i]?).getD 0 = ql[i] := by simp [show i < ql.length by omega]
      have hqi := hq ql[i] (List.getElem_mem (by omega))
      have hQi := hQ i (by omega)
      obtain ⟨mf2, ma2, y1, y2⟩ := c_runFor (N := N) (h := h) (a := a) (mf := mf1) (ma := ma1) (c := ql[i]) L C i hN (by rw [e2]; exact ok) (by rw [e2]; exact v.2.2.1) (by rw [e1]; exact tm) rn1 hL (by rw [e2]; exact hqi) (by omega) (by rw [e13, e2]; exact fun j hj => hQb j (by omega)) (by rw [e13]; exact p5) (by rw [e13]; exact p6) (by rw [e2]; exact cC)
      rw [e1, e2] at y2
      have bR := sRF_b (tall := ma 1 4) (L := L) (C := C) (c := ql[i]) L.length ok t4 hL hqi cC
      have ei : ((i + 1 : Nat) : Int) = (i : Int) + 1 := by omega
      by_cases q : (sRF (ma 1 4) b L C ql[i] L.length).1 = -1
      · left
        have en : sAsg (ma 1 4) b L ql (i + 1) = none := by
          rw [sAsg, p2]
          dsimp only
          rw [eq, if_pos q]
        rw [none_stays (i + 1) ql.length (by omega) en]
        dsimp only
        refine ⟨mf2, ma2, ⟨fun j hj => by rw [y1.1 j (by omega), p3 j (by omega)], fun p hp => by rw [y1.2 p (by omega) (by omega), p4 p (by omega) (by omega) (by omega)]⟩, by rw [y1.2 2 (by decide) (by decide)]; exact e2, ?_⟩
        rw [eq_X9_makeLawful_36, m_g22, Option.bind_some, e22, if_neg (fun z => by have := (iI_le ⟨by omega, by omega⟩ ⟨by omega, by omega⟩).mp z; omega), m_r21, Option.bind_some, m_l21 (by omega) (by omega), Option.bind_some, e13, hQi, if_pos m_isc, y2, Option.bind_some]
        dsimp only
        rw [if_neg (fun z => z (by rw [q]))]
      · right
        have f13 : ma2 13 = ma 13 := by rw [y1.2 13 (by decide) (by decide)]; exact e13
        have f14 : ma2 14 = ma1 14 := y1.2 14 (by decide) (by decide)
        refine ⟨(i + 1, (fun k => if k = (sRF (ma 1 4) b L C ql[i] L.length).1 then C k ++ [ql[i]] else C k), mf2, mA ma2 14 (rU (ma2 14) ql[i] (sRF (ma 1 4) b L C ql[i] L.length).1)), ⟨by dsimp only; omega, ?_, ?_, ?_, ?_, ?_⟩, by dsimp only; omega, ?_⟩
        · dsimp only
          rw [sAsg, p2]
          dsimp only
          rw [eq, if_neg q]
        · intro k hk
          dsimp only
          rw [y1.1 k hk, p3 k hk]
        · intro p a1 a2 a3
          dsimp only
          rw [mA_n a1, y1.2 p a2 a3, p4 p a1 a2 a3]
        · intro j hj
          dsimp only at hj ⊢
          rw [mA_2]
          by_cases ej : j = i
          · subst ej
            rw [hQi, rU_s]
            omega
          · rw [hQ j (by omega), rU_n (nodup_ne hqd (by omega) (by omega) ej), f14, ← hQ j (by omega)]
            exact p5 j (by omega)
        · intro k hk
          dsimp only
          rw [mA_2, lSome, hQi, rU_s]
          have ec : lSome (ma 13) (rU (ma2 14) ql[i] (sRF (ma 1 4) b L C ql[i] L.length).1) k i = C k := by
            rw [← p6 k hk]
            refine lSome_congr i (fun j hj => ?_)
            rw [hQ j (by omega), rU_n (nodup_ne hqd (by omega) (by omega) (by omega)), f14]
          rw [ec]
          by_cases ek : (k : Int) = (sRF (ma 1 4) b L C ql[i] L.length).1
          · rw [if_pos ek.symm, if_pos ek]
          · rw [if_neg (fun z => ek z.symm), if_neg ek]
        · dsimp only
          rw [eq_X9_makeLawful_36, m_g22, Option.bind_some, e22, if_neg (fun z => by have := (iI_le ⟨by omega, by omega⟩ ⟨by omega, by omega⟩).mp z; omega), m_r21, Option.bind_some, m_l21 (by omega) (by omega), Option.bind_some, e13, hQi, if_pos m_isc, y2, Option.bind_some]
          dsimp only
          rw [if_pos (by rw [iI_eq ⟨by omega, by omega⟩ ⟨by omega, by omega⟩]; exact q), m_r23, Option.bind_some, m_r21, Option.bind_some, m_l21 (by omega) (by omega), Option.bind_some, f13, hQi, m_s23 (by omega) (by omega), Option.bind_some, mU_mA, iI_add, ei]
end M39
