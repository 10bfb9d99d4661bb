/-! ===== the model: the run for a cell ===== -/
/-- all but what a look at runs changes -/
def mX (mf : Nat → Int) (ma : Nat → Int → Int) (mf' : Nat → Int) (ma' : Nat → Int → Int) : Prop := (∀ k, k ≠ 25 → mf' k = mf k) ∧ (∀ p, p ≠ 15 → p ≠ 16 → ma' p = ma p)
theorem mX_r (mf : Nat → Int) (ma : Nat → Int → Int) : mX mf ma mf ma := ⟨fun _ _ => rfl, fun _ _ _ => rfl⟩
theorem mX_t {mf mf1 mf2 : Nat → Int} {ma ma1 ma2 : Nat → Int → Int} (h1 : mX mf ma mf1 ma1) (h2 : mX mf1 ma1 mf2 ma2) : mX mf ma mf2 ma2 := ⟨fun k hk => by rw [h2.1 k hk, h1.1 k hk], fun p p1 p2 => by rw [h2.2 p p1 p2, h1.2 p p1 p2]⟩
/-- the widths of some cells together -/
def sW (r : Int → Int) (l : List Int) : Int := (l.map (fun c => r (36 + 7 * c))).sum
theorem sW_nil (r : Int → Int) : sW r [] = 0 := rfl
theorem sW_cons (r : Int → Int) (c : Int) (l : List Int) : sW r (c :: l) = r (36 + 7 * c) + sW r l := by simp [sW]
theorem sW_app (r : Int → Int) (l : List Int) (c : Int) : sW r (l ++ [c]) = sW r l + r (36 + 7 * c) := by simp [sW]
theorem sW_aS (r A : Int → Int) (l : List Int) (hA : rIs A l) : aS (fun i => r (36 + 7 * A i)) l.length = sW r l := by
  have : ∀ n, n ≤ l.length → aS (fun i => r (36 + 7 * A i)) n = sW r (l.take n) := by
    intro n
    induction n with
    | zero => intro _; simp [aS, sW]
    | succ n ih =>
      intro hn
      rw [aS, ih (by omega), List.take_succ_eq_append_getElem (by omega), sW_app, hA n (by omega)]
  have e := this l.length (by omega)
  rw [List.take_length] at e
  exact e
/-- runs, and cells of each so far: which run is for a cell, and what it costs -/
def sRF (tall : Int) (r : Int → Int) (L : List (Int × Int × Int × Int)) (C : Int → List Int) (c : Int) : Nat → Int × Int
  | 0 => (-1, 100000000)
  | k + 1 => match L[k]? with
    | none => sRF tall r L C c k
    | some x => if x.2.1 = r (36 + 7 * c + 1) ∧ sW r (C k ++ [c]) ≤ x.2.2.2 then
        (if (sRF tall r L C c k).2 ≤ sDP r x.2.2.1 x.2.2.2 (C k ++ [c]) 0 + r (36 + 7 * c) * tall * sFar (16 * x.1) (r (36 + 7 * c + 4)) - sDP r x.2.2.1 x.2.2.2 (C k) 0 then sRF tall r L C c k else (k, sDP r x.2.2.1 x.2.2.2 (C k ++ [c]) 0 + r (36 + 7 * c) * tall * sFar (16 * x.1) (r (36 + 7 * c + 4)) - sDP r x.2.2.1 x.2.2.2 (C k) 0))
      else sRF tall r L C c k
/-- a run's numbers -/
def lOk (rows sites : Int) (L : List (Int × Int × Int × Int)) : Prop := L.length ≤ 256 ∧ ∀ x, x ∈ L → (0 ≤ x.1 ∧ x.1 < rows) ∧ (-1 ≤ x.2.1 ∧ x.2.1 < 3) ∧ 0 ≤ x.2.2.1 ∧ 1 ≤ x.2.2.2 ∧ x.2.2.1 + x.2.2.2 ≤ sites
theorem sRF_b {tall : Int} {r : Int → Int} {L : List (Int × Int × Int × Int)} {C : Int → List Int} {c : Int} (k : Nat) (ok : rOk r) (ht : 1 ≤ tall ∧ tall ≤ 8) (hL : lOk 8 32 L) (hc : 0 ≤ c ∧ c < r 2) (hC : ∀ k c, c ∈ C k → 0 ≤ c ∧ c < r 2) : (-1 ≤ (sRF tall r L C c k).1 ∧ (sRF tall r L C c k).1 < k) ∧ (-200000000 ≤ (sRF tall r L C c k).2 ∧ (sRF tall r L C c k).2 ≤ 100000000) := by
  induction k with
  | zero => simp [sRF]
  | succ k ih =>
    rw [sRF]
    cases e : L[k]? with
    | none =>
      dsimp only
      omega
    | some x =>
      dsimp only
      have hx := hL.2 x (List.mem_of_getElem? e)
      have hw := ok.2.2.2.2.2 c hc.1 hc.2
      have b4 := ok.1 (36 + 7 * c + 4)
      have hCc : ∀ d, d ∈ C k ++ [c] → 0 ≤ d ∧ d < r 2 := by
        intro d hd
        rw [List.mem_append, List.mem_singleton] at hd
        rcases hd with hd | hd
        · exact hC k d hd
        · subst hd; exact hc
      have d0 := sDP_b (fi := x.2.2.1) (W := x.2.2.2) ok hCc 0 (by omega)
      have d2 := sDP_b (fi := x.2.2.1) (W := x.2.2.2) ok (hC k) 0 (by omega)
      have d3 := sDP_l (fi := x.2.2.1) (W := x.2.2.2) ok (hC k) 0 (by omega) (by omega)
      have m1 := mul_b (x := r (36 + 7 * c)) (X := 6) (y := tall) (Y := 8) (by omega) (by omega) (by omega) (by omega)
      have m2 := mul_b (x := r (36 + 7 * c) * tall) (X := 48) (y := sFar (16 * x.1) (r (36 + 7 * c + 4))) (Y := 601) m1.1 m1.2 (sFar_b _ _) (sFar_l (M := 600) (by omega) (by omega))
      split
      · split
        · omega
        · dsimp only
          omega
      · omega
section M36
variable {N : Nat} {h : ka_H} {a : Nat} {mf : Nat → Int} {ma : Nat → Int → Int}
theorem rIs_at {l : List (Int × Int × Int × Int)} {g : Int → Int} (f : Int × Int × Int × Int → Int) {k : Nat} {x : Int × Int × Int × Int} (h : l[k]? = some x) : rList (l.map f) g k = f x := by
  have hk : k < l.length := by
    rcases Nat.lt_or_ge k l.length with z | z
    · exact z
    · rw [List.getElem?_eq_none z] at h
      cases h
  rw [rList_at (by rw [List.length_map]; exact hk), List.getElem_map]
  congr 1
  rw [List.getElem?_eq_getElem hk] at h
  exact Option.some.inj h
/-- the arrays hold these runs -/
def mRun (mf : Nat → Int) (ma : Nat → Int → Int) (L : List (Int × Int × Int × Int)) : Prop := mf 18 = L.length ∧ ∀ (k : Nat) (x : Int × Int × Int × Int), L[k]? = some x → ma 8 k = x.1 ∧ ma 9 k = x.2.1 ∧ ma 10 k = x.2.2.1 ∧ ma 11 k = x.2.2.2
theorem mRun_lay (mf : Nat → Int) (ma : Nat → Int → Int) (L : List (Int × Int × Int × Int)) : mRun (mF mf 18 L.length) (mRuns ma L) L := by
  refine ⟨mF_s _ _ _, ?_⟩
  intro k x hx
  rw [mRuns_8, mRuns_9, mRuns_10, mRuns_11]
  exact ⟨rIs_at _ hx, rIs_at _ hx, rIs_at _ hx, rIs_at _ hx⟩
theorem mRun_X {mf mf' : Nat → Int} {ma ma' : Nat → Int → Int} {L : List (Int × Int × Int × Int)} (h : mRun mf ma L) (x : mX mf ma mf' ma') : mRun mf' ma' L := by
  refine ⟨by rw [x.1 18 (by decide)]; exact h.1, ?_⟩
  intro k y hy
  rw [x.2 8 (by decide) (by decide), x.2 9 (by decide) (by decide), x.2 10 (by decide) (by decide), x.2 11 (by decide) (by decide)]
  exact h.2 k y hy
/-- a list of cells, laid into some, and its least move -/
theorem c_least {k : Int} (L : List (Int × Int × Int × Int)) (x : Int × Int × Int × Int) (k0 : Nat) (hk0 : k = k0) (l : List Int) (hN : 5000 ≤ N) (ok : rOk (ma 2)) (rn : mRun mf ma L) (hL : lOk 8 32 L) (hx : L[k0]? = some x) (hl : ∀ c, c ∈ l → 0 ≤ c ∧ c < ma 2 2) (hn : l.length ≤ 20) (h25 : mf 25 = l.length) (h15 : rIs (ma 15) l) :
    ∃ ma', mX mf ma mf ma' ∧ (∀ i : Nat, i ≤ l.length → ∀ s : Int, 0 ≤ s → s ≤ x.2.2.2 → ma' 16 (33 * i + s) = sDP (ma 2) x.2.2.1 x.2.2.2 (l.drop i) s) ∧ ma' 15 = ma 15 ∧ fm_X9_leastIn N [.ref a, .int (iI k)] (mH h a mf ma) = some (iI (sDP (ma 2) x.2.2.1 x.2.2.2 l 0), mH h a mf ma') := by
  subst hk0
  have hk : k0 < L.length := by
    rcases Nat.lt_or_ge k0 L.length with z | z
    · exact z
    · rw [List.getElem?_eq_none z] at hx
      cases hx
  obtain ⟨e8, e9, e10, e11⟩ := rn.2 k0 x hx
  have hxx := hL.2 x (List.mem_of_getElem? hx)
  have hl1 := hL.1
  obtain ⟨g, x1, x2⟩ := c_leastIn (N := N) (h := h) (a := a) (mf := mf) (ma := ma) (k := k0) l hN ok (by omega) (by omega) (by omega) hl hn h25 h15
  rw [e10, e11] at x1 x2
  exact ⟨mA ma 16 g, ⟨fun _ _ => rfl, fun p _ p2 => mA_n p2⟩, fun i hi s s0 s1 => by rw [mA_2]; exact x1 i hi s s0 s1, mA_n (by decide), x2⟩
theorem c_runFor {c : Int} (L : List (Int × Int × Int × Int)) (C : Int → List Int) (n : Nat) (hN : 5000 ≤ N) (ok : rOk (ma 2)) (fk : fOk (ma 2)) (tm : tmOk (ma 1)) (rn : mRun mf ma L) (hL : lOk 8 32 L) (hc : 0 ≤ c ∧ c < ma 2 2) (hn : n < 20) (hQ : ∀ i : Nat, i < n → 0 ≤ ma 13 i ∧ ma 13 i < ma 2 2) (hG : ∀ i : Nat, i < n → -1 ≤ ma 14 (ma 13 i) ∧ ma 14 (ma 13 i) ≤ 600) (hC : ∀ k : Nat, k < L.length → lSome (ma 13) (ma 14) k n = C k) (hC2 : ∀ k c, c ∈ C k → 0 ≤ c ∧ c < ma 2 2) :
    ∃ mf' ma', mX mf ma mf' ma' ∧ fm_X9_runFor N [.ref a, .int (iI c), .int (iI n)] (mH h a mf ma) = some (iI (sRF (ma 1 4) (ma 2) L C c L.length).1, mH h a mf' ma') := by
  have g2 := ok.2.2.2.1
  have hl1 := hL.1
  have t4 := tm.2.2.2.2.1
  rw [en_X9_runFor, eq_X9_runFor_0]
  have key := fix_ms (B := cm_X9_runFor_9 N) (fun x : Nat × (Nat → Int) × (Nat → Int → Int) => [some (.ref a), some (.int (iI c)), some (.int (iI n)), some (.int (iI (sRF (ma 1 4) (ma 2) L C c x.1).1)), some (.int (iI (sRF (ma 1 4) (ma 2) L C c x.1).2)), some (.int (iI x.1))]) (fun x => mH h a x.2.1 x.2.2) (fun x => x.1 ≤ L.length ∧ mX mf ma x.2.1 x.2.2) (fun x => L.length - x.1) (fun x => ∃ mf' ma', mX mf ma mf' ma' ∧ x = some (iI (sRF (ma 1 4) (ma 2) L C c L.length).1, mH h a mf' ma')) ?_ N (0, mf, ma) ⟨by dsimp only; omega, mX_r mf ma⟩ (by dsimp only; omega)
  · exact key
  · rintro K ⟨k, mf1, ma1⟩ ⟨p1, p2⟩
    dsimp only at p1 p2 ⊢
    have e2 : ma1 2 = ma 2 := p2.2 2 (by decide) (by decide)
    have e1 : ma1 1 = ma 1 := p2.2 1 (by decide) (by decide)
    have e13 : ma1 13 = ma 13 := p2.2 13 (by decide) (by decide)
    have e14 : ma1 14 = ma 14 := p2.2 14 (by decide) (by decide)
    have rn1 := mRun_X rn p2
    by_cases e : k = L.length
    · left
      refine ⟨mf1, ma1, p2, ?_⟩
      rw [eq_X9_runFor_9, m_g18, Option.bind_some, rn1.1, if_pos ((iI_le ⟨by omega, by omega⟩ ⟨by omega, by omega⟩).mpr (by omega)), e]
    · right
      obtain ⟨x, hx⟩ : ∃ x, L[k]? = some x := ⟨L[k]'(by omega), List.getElem?_eq_getElem (by omega)⟩
      obtain ⟨x8, x9, x10, x11⟩ := rn1.2 k x hx
      have hxx := hL.2 x (List.mem_of_getElem? hx)
      have fc := fk c hc.1 hc.2
      have g1 := ok.2.2.1
      have hw := ok.2.2.2.2.2 c hc.1 hc.2
      have cf := c_fenceOf (N := N) (h := h) (a := a) (mf := mf1) (ma := ma1) (c := c) hc.1 (by omega)
      rw [e2] at cf
      have ei : ((k + 1 : Nat) : Int) = (k : Int) + 1 := by omega
      have bS := sRF_b (tall := ma 1 4) (L := L) (C := C) (c := c) k ok t4 hL hc hC2
      by_cases q1 : x.2.1 = ma 2 (36 + 7 * c + 1)
      · have bC := lSome_len (ma 13) (ma 14) k n
        rw [hC k (by omega)] at bC
        have hm1 : lMore (C k) c = C k ++ [c] := by unfold lMore; rw [if_neg (by omega)]
        have hm0 : lMore (C k) (-1) = C k := by unfold lMore; rw [if_pos rfl]
        have hCc : ∀ d, d ∈ C k ++ [c] → 0 ≤ d ∧ d < ma 2 2 := by
          intro d hd
          rw [List.mem_append, List.mem_singleton] at hd
          rcases hd with hd | hd
          · exact hC2 k d hd
          · subst hd; exact hc
        have lc : (C k ++ [c]).length = (C k).length + 1 := by simp
        have s1 := c_laySome (N := N) (h := h) (a := a) (mf := mf1) (ma := ma1) (k := k) (m := c) n hN (by omega) (by rw [e13]; intro i hi; have := hQ i hi; omega) (by rw [e13, e14]; exact hG) (by omega) (by omega)
        rw [e13, e14, hC k (by omega), hm1] at s1
        generalize hmf2 : mF mf1 25 (C k ++ [c]).length = mf2 at s1
        generalize hma2 : mA ma1 15 (rList (C k ++ [c]) (ma1 15)) = ma2 at s1
        have y2 : mX mf ma mf2 ma2 := mX_t p2 ⟨fun j hj => by rw [← hmf2, mF_n hj], fun p p1 _ => by rw [← hma2, mA_n p1]⟩
        have z25 : mf2 25 = (C k ++ [c]).length := by rw [← hmf2, mF_s]
        have z15 : rIs (ma2 15) (C k ++ [c]) := by rw [← hma2, mA_2]; exact rIs_list _ _
        have z2 : ma2 2 = ma 2 := y2.2 2 (by decide) (by decide)
        have sw := c_someWidth (N := N) (h := h) (a := a) (mf := mf2) (ma := ma2) hN (by omega) (by
          intro i i0 i1
          obtain ⟨j, rfl⟩ : ∃ j : Nat, i = j := ⟨i.toNat, by omega⟩
          rw [z15 j (by omega)]
          have := hCc _ (List.getElem_mem (l := C k ++ [c]) (n := j) (by omega))
          omega)
        rw [z25, Int.toNat_natCast, z2, sW_aS _ _ _ z15] at sw
        have rn2 := mRun_X rn y2
        obtain ⟨w8, w9, w10, w11⟩ := rn2.2 k x hx
        have bsw : 0 ≤ sW (ma 2) (C k ++ [c]) ∧ sW (ma 2) (C k ++ [c]) ≤ 6 * 20 := by
          have gen : ∀ l : List Int, (∀ d, d ∈ l → 0 ≤ d ∧ d < ma 2 2) → 0 ≤ sW (ma 2) l ∧ sW (ma 2) l ≤ 6 * l.length := by
            intro l
            induction l with
            | nil => intro _; simp [sW]
            | cons d t ih =>
              intro hd
              have i1 := ih (fun z hz => hd z (by simp [hz]))
              have i2 := hd d (by simp)
              have i3 := ok.2.2.2.2.2 d i2.1 i2.2
              rw [sW_cons]
              simp only [List.length_cons]
              omega
          have := gen _ hCc
          omega
        by_cases q2 : sW (ma 2) (C k ++ [c]) ≤ x.2.2.2
        · obtain ⟨ma3, y3, _, _, l1⟩ := c_least (N := N) (h := h) (a := a) (mf := mf2) (ma := ma2) (k := k) L x k rfl (C k ++ [c]) hN (by rw [z2]; exact ok) rn2 hL hx (by rw [z2]; exact hCc) (by omega) z25 z15
          rw [z2] at l1
          have y3' := mX_t y2 y3
          have v2 : ma3 2 = ma 2 := y3'.2 2 (by decide) (by decide)
          have v1 : ma3 1 = ma 1 := y3'.2 1 (by decide) (by decide)
          have v13 : ma3 13 = ma 13 := y3'.2 13 (by decide) (by decide)
          have v14 : ma3 14 = ma 14 := y3'.2 14 (by decide) (by decide)
          have rn3 := mRun_X rn y3'
          obtain ⟨u8, u9, u10, u11⟩ := rn3.2 k x hx
          have cw := c_width (N := N) (h := h) (a := a) (mf := mf2) (ma := ma3) (c := c) hc.1 (by omega)
          rw [v2] at cw
          have s2 := c_laySome (N := N) (h := h) (a := a) (mf := mf2) (ma := ma3) (k := k) (m := -1) n hN (by omega) (by rw [v13]; intro i hi; have := hQ i hi; omega) (by rw [v13, v14]; exact hG) (by omega) (by omega)
          rw [v13, v14, hC k (by omega), hm0] at s2
          generalize hmf4 : mF mf2 25 (C k).length = mf4 at s2
          generalize hma4 : mA ma3 15 (rList (C k) (ma3 15)) = ma4 at s2
          have y4 : mX mf ma mf4 ma4 := mX_t y3' ⟨fun j hj => by rw [← hmf4, mF_n hj], fun p p1 _ => by rw [← hma4, mA_n p1]⟩
          have t25 : mf4 25 = (C k).length := by rw [← hmf4, mF_s]
          have t15 : rIs (ma4 15) (C k) := by rw [← hma4, mA_2]; exact rIs_list _ _
          have t2 : ma4 2 = ma 2 := y4.2 2 (by decide) (by decide)
          have rn4 := mRun_X rn y4
          obtain ⟨ma5, y5, _, _, l2⟩ := c_least (N := N) (h := h) (a := a) (mf := mf4) (ma := ma4) (k := k) L x k rfl (C k) hN (by rw [t2]; exact ok) rn4 hL hx (by rw [t2]; exact hC2 k) (by omega) t25 t15
          rw [t2] at l2
          have y5' := mX_t y4 y5
          have d0 := sDP_b (fi := x.2.2.1) (W := x.2.2.2) ok hCc 0 (by omega)
          have d1 := sDP_l (fi := x.2.2.1) (W := x.2.2.2) ok hCc 0 (by omega) (by omega)
          have d2 := sDP_b (fi := x.2.2.1) (W := x.2.2.2) ok (hC2 k) 0 (by omega)
          have d3 := sDP_l (fi := x.2.2.1) (W := x.2.2.2) ok (hC2 k) 0 (by omega) (by omega)
          have b4 := ok.1 (36 + 7 * c + 4)
          have m1 := mul_b (x := ma 2 (36 + 7 * c)) (X := 6) (y := ma 1 4) (Y := 8) (by omega) (by omega) (by omega) (by omega)
          have m2 := mul_b (x := ma 2 (36 + 7 * c) * ma 1 4) (X := 48) (y := sFar (16 * x.1) (ma 2 (36 + 7 * c + 4))) (Y := 601) m1.1 m1.2 (sFar_b _ _) (sFar_l (M := 600) (by omega) (by omega))
          have cfar := c_far (N := N) (h := mH h a mf2 ma3) (x := 16 * x.1) (y := ma 2 (36 + 7 * c + 4)) (by omega) (by omega)
          refine ⟨(k + 1, mf4, ma5), ⟨by dsimp only; omega, y5'⟩, by dsimp only; omega, ?_⟩
          dsimp only
          rw [eq_X9_runFor_9, m_g18, Option.bind_some, rn1.1, if_neg (fun z => by have := (iI_le ⟨by omega, by omega⟩ ⟨by omega, by omega⟩).mp z; omega), m_r15, Option.bind_some, m_l15 (by omega) (by omega), Option.bind_some, x9, if_pos m_isc, cf, Option.bind_some]
          dsimp only
          rw [if_neg (fun z => z (by rw [q1])), if_pos m_isc, s1, Option.bind_some, if_pos m_isc, sw, Option.bind_some]
          dsimp only
          rw [m_r17, Option.bind_some, m_l17 (by omega) (by omega), Option.bind_some, w11, if_neg (fun z => by have := (iI_lt ⟨by omega, by omega⟩ ⟨by omega, by omega⟩).mp z; omega), if_pos m_isc, l1, Option.bind_some]
          dsimp only
          rw [if_pos m_isc, cw, Option.bind_some]
          dsimp only
          rw [m_r5, Option.bind_some, m_l5 (by omega) (by omega), Option.bind_some, v1, m_r14, Option.bind_some, m_l14 (by omega) (by omega), Option.bind_some, u8, eq_X9_runFor_82, m_r6, Option.bind_some, c_cellAt, Option.bind_some]
          dsimp only
          rw [iI_add, m_l6 (by omega) (by omega), Option.bind_some, v2, iI_mul, cfar, Option.bind_some]
          dsimp only
          rw [if_pos m_isc, s2, Option.bind_some, if_pos m_isc, l2, Option.bind_some]
          dsimp only
          rw [show (if ma 2 (36 + 7 * c + 4) ≤ 16 * x.1 then 16 * x.1 - ma 2 (36 + 7 * c + 4) else ma 2 (36 + 7 * c + 4) - 16 * x.1) = sFar (16 * x.1) (ma 2 (36 + 7 * c + 4)) from rfl, iI_mul, iI_mul, iI_add, iI_sub, sRF, hx]
          dsimp only
          rw [if_pos (And.intro q1 q2), ei]
          by_cases q3 : (sRF (ma 1 4) (ma 2) L C c k).2 ≤ sDP (ma 2) x.2.2.1 x.2.2.2 (C k ++ [c]) 0 + ma 2 (36 + 7 * c) * ma 1 4 * sFar (16 * x.1) (ma 2 (36 + 7 * c + 4)) - sDP (ma 2) x.2.2.1 x.2.2.2 (C k) 0
          · rw [if_pos ((iI_le ⟨by omega, by omega⟩ ⟨by omega, by omega⟩).mpr q3), if_pos q3, eq_X9_runFor_133, if_pos ((iI_le ⟨by omega, by omega⟩ ⟨by omega, by omega⟩).mpr q3), eq_X9_runFor_148, eq_X9_runFor_150, iI_add]
          · rw [if_neg (fun z => q3 ((iI_le ⟨by omega, by omega⟩ ⟨by omega, by omega⟩).mp z)), if_neg q3, eq_X9_runFor_133, if_neg (fun z => q3 ((iI_le ⟨by omega, by omega⟩ ⟨by omega, by omega⟩).mp z)), eq_X9_runFor_148, eq_X9_runFor_150, iI_add]
        · refine ⟨(k + 1, mf2, ma2), ⟨by dsimp only; omega, y2⟩, by dsimp only; omega, ?_⟩
          dsimp only
          rw [eq_X9_runFor_9, m_g18, Option.bind_some, rn1.1, if_neg (fun z => by have := (iI_le ⟨by omega, by omega⟩ ⟨by omega, by omega⟩).mp z; omega), m_r15, Option.bind_some, m_l15 (by omega) (by omega), Option.bind_some, x9, if_pos m_isc, cf, Option.bind_some]
          dsimp only
          rw [if_neg (fun z => z (by rw [q1])), if_pos m_isc, s1, Option.bind_some, if_pos m_isc, sw, Option.bind_some]
          dsimp only
          rw [m_r17, Option.bind_some, m_l17 (by omega) (by omega), Option.bind_some, w11, if_pos ((iI_lt ⟨by omega, by omega⟩ ⟨by omega, by omega⟩).mpr (by omega)), eq_X9_runFor_150, sRF, hx]
          dsimp only
          rw [if_neg (fun z => q2 z.2), iI_add, ei]
      · refine ⟨(k + 1, mf1, ma1), ⟨by dsimp only; omega, p2⟩, by dsimp only; omega, ?_⟩
        dsimp only
        rw [eq_X9_runFor_9, m_g18, Option.bind_some, rn1.1, if_neg (fun z => by have := (iI_le ⟨by omega, by omega⟩ ⟨by omega, by omega⟩).mp z; omega), m_r15, Option.bind_some, m_l15 (by omega) (by omega), Option.bind_some, x9, if_pos m_isc, cf, Option.bind_some]
        dsimp only
        rw [if_pos (by rw [iI_eq ⟨by omega, by omega⟩ ⟨by omega, by omega⟩]; exact q1), eq_X9_runFor_150, sRF, hx]
        dsimp only
        rw [if_neg (fun z => q1 z.1), iI_add, ei]
end M36
