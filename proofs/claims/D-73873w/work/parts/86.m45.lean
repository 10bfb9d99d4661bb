/-! ===== the model: sorts ===== -/
theorem mA_c {ma : Nat → Int → Int} {p q : Nat} {f g : Int → Int} (h : p ≠ q) : mA (mA ma p f) q g = mA (mA ma q g) p f := by
  funext x
  by_cases e1 : x = p
  · subst e1
    rw [mA_n h, mA_2, mA_2]
  · by_cases e2 : x = q
    · subst e2
      rw [mA_2, mA_n e1, mA_2]
    · rw [mA_n e2, mA_n e1, mA_n e1, mA_n e2]
theorem rList_rList {l b : List Int} {g : Int → Int} (h : b.length ≤ l.length) : rList l (rList b g) = rList l g := by
  funext j
  unfold rList
  by_cases e : 0 ≤ j ∧ j < l.length
  · rw [if_pos e, if_pos e]
  · rw [if_neg e, if_neg e, if_neg (by omega)]
/-- an order, the best one, the row -/
def mO (ma : Nat → Int → Int) (l b : List Int) (q : Int → Int) : Nat → Int → Int := mA (mA (mA ma 17 (rList l (ma 17))) 18 (rList b (ma 18))) 2 q
theorem mO_17 (ma : Nat → Int → Int) (l b : List Int) (q : Int → Int) : mO ma l b q = mA (mA (mA ma 18 (rList b (ma 18))) 2 q) 17 (rList l (ma 17)) := by
  unfold mO
  rw [mA_c (p := 17) (q := 18) (by decide), mA_c (p := 17) (q := 2) (by decide)]
theorem mO_n {ma : Nat → Int → Int} {l b : List Int} {q : Int → Int} {p : Nat} (h1 : p ≠ 17) (h2 : p ≠ 18) (h3 : p ≠ 2) : mO ma l b q p = ma p := by
  unfold mO
  rw [mA_n h3, mA_n h2, mA_n h1]
theorem mO_2 (ma : Nat → Int → Int) (l b : List Int) (q q' : Int → Int) : mA (mO ma l b q) 2 q' = mO ma l b q' := by
  unfold mO
  rw [mA_mA]
theorem rIs_lg {A : Int → Int} {l : List Int} {x : Int} (h : rIs A l) (h0 : 0 ≤ x) (h1 : x < l.length) : A x = lg l x.toNat := by
  have := h x.toNat (by omega)
  rw [show ((x.toNat : Nat) : Int) = x by omega] at this
  rw [this]
  simp [lg, show x.toNat < l.length by omega]
section M45
variable {N : Nat} {h : ka_H} {a : Nat} {mf : Nat → Int} {ma : Nat → Int → Int}
theorem c_putGroup {p : Nat} {gl rs ss o : List Int} {n : Nat} (hN : 5000 ≤ N) (hp : p = 17 ∨ p = 18) (hn : n ≤ 5) (h34 : mf 34 = n) (hg : gl.length = n) (hr : rs.length = n) (hs : ss.length = n) (ho : o.length = n) (hob : ∀ i, i < n → 0 ≤ lg o i ∧ lg o i < n) (hgb : ∀ i, i < n → 0 ≤ lg gl i ∧ lg gl i < 20) (i21 : rIs (ma 21) gl) (i22 : rIs (ma 22) rs) (i23 : rIs (ma 23) ss) (ip : rIs (ma p) o) : fm_X9_putGroup N [.ref a, .ref (a + 1 + p)] (mH h a mf ma) = some (mH h a mf (mA ma 2 (rGs (lPG gl rs ss o n) (ma 2)))) := by
  have ml : mLen p = 5 := by rcases hp with e | e <;> subst e <;> rfl
  rw [en_X9_putGroup, eq_X9_putGroup_0]
  have key := fix_up (B := cm_X9_putGroup_2 N) (R := some (mH h a mf (mA ma 2 (rGs (lPG gl rs ss o n) (ma 2))))) (fun i => [some (.ref a), some (.ref (a + 1 + p)), some (.int (iI i))]) (fun i => mH h a mf (mA ma 2 (rGs (lPG gl rs ss o i) (ma 2)))) n ?_ ?_ N 0 (by omega) (by omega)
  · simp only [lPG, rGs_nil, mA_self, Int.natCast_zero] at key
    exact key
  · intro K
    rw [eq_X9_putGroup_2, m_g34, Option.bind_some, h34, if_pos ((iI_le ⟨by omega, by omega⟩ ⟨by omega, by omega⟩).mpr (Int.le_refl _))]
  · intro K i hi
    have ei : ((i + 1 : Nat) : Int) = (i : Int) + 1 := by omega
    have bo := hob i hi
    have bg := hgb i hi
    have e1 : ma 21 i = lg gl i := by rw [i21 i (by omega)]; simp [lg, show i < gl.length by omega]
    have e2 : ma p i = lg o i := by rw [ip i (by omega)]; simp [lg, show i < o.length by omega]
    have e3 : ma 22 (lg o i) = lg rs (lg o i).toNat := rIs_lg i22 bo.1 (by omega)
    have e4 : ma 23 (lg o i) = lg ss (lg o i).toNat := rIs_lg i23 bo.1 (by omega)
    have lp : ∀ q : Int → Int, ka_ld 0 (mH h a mf (mA ma 2 q)) (a + 1 + p) (iI i) = some (iI (lg o i)) := by
      intro q
      rw [m_ld (p := p) rfl (by omega) (by omega) (by omega), mA_n (by omega), e2]
    rw [eq_X9_putGroup_2, m_g34, Option.bind_some, h34, if_neg (fun z => by have := (iI_le ⟨by omega, by omega⟩ ⟨by omega, by omega⟩).mp z; omega), m_r31, Option.bind_some, m_l31 (by omega) (by omega), Option.bind_some, mA_n (by decide), e1, m_r32, Option.bind_some, lp, Option.bind_some, m_l32 (by omega) (by omega), Option.bind_some, mA_n (by decide), e3, m_r33, Option.bind_some, Option.bind_some, m_l33 (by omega) (by omega), Option.bind_some, mA_n (by decide), e4, if_pos m_isc, c_give bg.1 bg.2, Option.bind_some, mA_2, mA_mA, iI_add, ei, lPG, rGs_app]
/-- what a group comes to -/
def rSrt (tall : Int) (r : Int → Int) (gl : List Int) : Int → Int := rGs (lPG gl (gl.map (fun c => r (36 + 7 * c + 5))) (gl.map (fun c => r (36 + 7 * c + 6))) (sBO (fun o => sWire tall (rGs (lPG gl (gl.map (fun c => r (36 + 7 * c + 5))) (gl.map (fun c => r (36 + 7 * c + 6))) o gl.length) r)) (lPm 120 (idL gl.length)) (idL gl.length, sWire tall r)).1 gl.length) r
theorem c_sortGroup {gl : List Int} (hN : 5000 ≤ N) (v : vOk (ma 2)) (tm : tmOk (ma 1)) (hn : gl.length ≤ 5) (h34 : mf 34 = gl.length) (hgl : ∀ c, c ∈ gl → 0 ≤ c ∧ c < 20) (i21 : rIs (ma 21) gl) (i22 : rIs (ma 22) (gl.map (fun c => ma 2 (36 + 7 * c + 5)))) (i23 : rIs (ma 23) (gl.map (fun c => ma 2 (36 + 7 * c + 6)))) :
    ∃ l b, fm_X9_sortGroup N [.ref a] (mH h a mf ma) = some (mH h a mf (mO ma l b (rSrt (ma 1 4) (ma 2) gl))) := by
  have t4 := tm.2.2.2.2.1
  unfold rSrt
  generalize hrs : gl.map (fun c => ma 2 (36 + 7 * c + 5)) = rs at i22 ⊢
  generalize hss : gl.map (fun c => ma 2 (36 + 7 * c + 6)) = ss at i23 ⊢
  generalize hr0 : ma 2 = r at v ⊢
  generalize hnn : gl.length = n at hn h34 ⊢
  have rl : rs.length = n := by rw [← hrs, List.length_map, hnn]
  have sl : ss.length = n := by rw [← hss, List.length_map, hnn]
  have bgl : ∀ i, i < n → 0 ≤ lg gl i ∧ lg gl i < 20 := by
    intro i hi
    have : lg gl i = gl[i]'(by omega) := by simp [lg, show i < gl.length by omega]
    rw [this]
    exact hgl _ (List.getElem_mem _)
  have brs : ∀ i, i < n → -1 ≤ lg rs i ∧ lg rs i ≤ 600 := by
    intro i hi
    have : lg rs i = rs[i]'(by omega) := by simp [lg, show i < rs.length by omega]
    rw [this]
    have hm := List.getElem_mem (l := rs) (n := i) (by omega)
    generalize rs[i] = z at hm
    rw [← hrs, List.mem_map] at hm
    obtain ⟨y, _, e⟩ := hm
    rw [← e, hr0]
    exact v.1.1 _
  have bss : ∀ i, i < n → -1 ≤ lg ss i ∧ lg ss i ≤ 600 := by
    intro i hi
    have : lg ss i = ss[i]'(by omega) := by simp [lg, show i < ss.length by omega]
    rw [this]
    have hm := List.getElem_mem (l := ss) (n := i) (by omega)
    generalize ss[i] = z at hm
    rw [← hss, List.mem_map] at hm
    obtain ⟨y, _, e⟩ := hm
    rw [← e, hr0]
    exact v.1.1 _
  have pv : ∀ o, gdO n o = true → vOk (rGs (lPG gl rs ss o n) r) := by
    intro o ho
    refine (rGs_ok v ?_).1
    intro x hx
    obtain ⟨i, i1, i2⟩ := lPG_fst hx
    have bo := gdO_b ho i1
    subst i2
    exact ⟨bgl i i1, brs _ (by omega), bss _ (by omega)⟩
  have pp : ∀ o o', rGs (lPG gl rs ss o n) (rGs (lPG gl rs ss o' n) r) = rGs (lPG gl rs ss o n) r := by
    intro o o'
    refine rGs_rGs (fun x hx => ?_)
    obtain ⟨i, i1, i2⟩ := lPG_fst hx
    refine ⟨_, lPG_mem (o := o) i1, ?_⟩
    rw [i2]
  obtain ⟨k1, k2, k3⟩ := pm_ok ⟨n, by omega⟩
  dsimp only at k1 k2 k3
  have k4 : ∀ o, o ∈ lPm 120 (idL n) → gdO n o = true := by
    rw [List.all_eq_true] at k3
    exact k3
  have e0 : mO ma (idL n) (idL n) r = mA (mA ma 17 (rList (idL n) (ma 17))) 18 (rList (idL n) (ma 18)) := by
    unfold mO
    have : r = mA (mA ma 17 (rList (idL n) (ma 17))) 18 (rList (idL n) (ma 18)) 2 := by rw [mA_n (by decide), mA_n (by decide), hr0]
    conv => lhs; rw [this, mA_self]
  have ko := c_keepOrder (N := N) (h := h) (a := a) (mf := mf) (ma := ma) (l := idL n) (g := ma 17) hN (by rw [idL_len]; exact hn)
  rw [idL_len] at ko
  have wv : ∀ l b q, vOk q → fm_X9_wire N [.ref a] (mH h a mf (mO ma l b q)) = some (iI (sWire (ma 1 4) q), mH h a mf (mO ma l b q)) := by
    intro l b q vq
    have := c_wireV (N := N) (h := h) (a := a) (mf := mf) (ma := mA (mA ma 17 (rList l (ma 17))) 18 (rList b (ma 18))) hN vq
    rw [mA_n (by decide), mA_n (by decide)] at this
    exact this
  rw [en_X9_sortGroup, eq_X9_sortGroup_0, m_g34, Option.bind_some, h34, if_pos m_isc, c_firstOrder hN hn, Option.bind_some, m_g34, Option.bind_some, h34, if_pos m_isc, ko, Option.bind_some, ← e0, if_pos m_isc, wv _ _ _ v, Option.bind_some]
  dsimp only
  refine fix_ms (B := cm_X9_sortGroup_21 N) (fun x : Nat × List Int × List Int × Int × (Int → Int) => [some (.ref a), some (.int (iI x.2.2.2.1))]) (fun x => mH h a mf (mO ma x.2.1 x.2.2.1 x.2.2.2.2)) (fun x => x.1 ≤ 120 ∧ lEn x.1 x.2.1 = true ∧ gdO n x.2.1 = true ∧ gdO n x.2.2.1 = true ∧ (∀ o, o ∈ lPm x.1 x.2.1 → gdO n o = true) ∧ (0 ≤ x.2.2.2.1 ∧ x.2.2.2.1 ≤ 77760000) ∧ vOk x.2.2.2.2 ∧ (∀ o, rGs (lPG gl rs ss o n) x.2.2.2.2 = rGs (lPG gl rs ss o n) r) ∧ sBO (fun o => sWire (ma 1 4) (rGs (lPG gl rs ss o n) r)) (lPm x.1 x.2.1) (x.2.2.1, x.2.2.2.1) = sBO (fun o => sWire (ma 1 4) (rGs (lPG gl rs ss o n) r)) (lPm 120 (idL n)) (idL n, sWire (ma 1 4) r)) (fun x => x.1) (fun z => ∃ l b, z = some (mH h a mf (mO ma l b (rGs (lPG gl rs ss (sBO (fun o => sWire (ma 1 4) (rGs (lPG gl rs ss o n) r)) (lPm 120 (idL n)) (idL n, sWire (ma 1 4) r)).1 n) r)))) ?_ N (120, idL n, idL n, sWire (ma 1 4) r, r) ⟨by dsimp only; omega, k1, k2, k2, k4, sWire_b t4 v, v, fun _ => rfl, rfl⟩ (by dsimp only; omega)
  rintro K ⟨f, l, b, m, q⟩ ⟨p1, p2, p3, p4, p5, p6, p7, p8, p9⟩
  dsimp only at p1 p2 p3 p4 p5 p6 p7 p8 p9 ⊢
  have ll := gdO_len p3
  have bl := gdO_len p4
  have nx := c_nextOrder (N := N) (h := h) (a := a) (mf := mf) (ma := mA (mA ma 18 (rList b (ma 18))) 2 q) (l := l) (g := ma 17) hN (by omega) (fun i hi => by have := gdO_b p3 (show i < n by omega); omega)
  rw [← mO_17, ll] at nx
  rw [eq_X9_sortGroup_21, m_g34, Option.bind_some, h34, if_pos m_isc, nx]
  have i21' : ∀ l b q, rIs (mO ma l b q 21) gl := fun l b q => by rw [mO_n (by decide) (by decide) (by decide)]; exact i21
  have i22' : ∀ l b q, rIs (mO ma l b q 22) rs := fun l b q => by rw [mO_n (by decide) (by decide) (by decide)]; exact i22
  have i23' : ∀ l b q, rIs (mO ma l b q 23) ss := fun l b q => by rw [mO_n (by decide) (by decide) (by decide)]; exact i23
  cases e : lNext l with
  | none =>
    left
    have em : lPm f l = [] := by
      cases f with
      | zero => rfl
      | succ f => rw [lPm, e]
    rw [em, sBO] at p9
    have pg := c_putGroup (N := N) (h := h) (a := a) (mf := mf) (ma := mO ma l b q) (p := 18) (gl := gl) (rs := rs) (ss := ss) (o := b) (n := n) hN (Or.inr rfl) hn h34 hnn rl sl bl (fun i hi => gdO_b p4 hi) bgl (i21' _ _ _) (i22' _ _ _) (i23' _ _ _) (by
      unfold mO
      rw [mA_n (by decide), mA_2]
      exact rIs_list _ _)
    rw [mO_2, show mO ma l b q 2 = q from mA_2 _ _ _, p8] at pg
    refine ⟨l, b, ?_⟩
    dsimp only
    rw [Option.bind_some]
    dsimp only
    rw [if_pos (by rfl), m_r28, Option.bind_some, if_pos m_isc, show a + 19 = a + 1 + 18 by omega, pg, Option.bind_some, ← p9]
  | some o =>
    right
    cases f with
    | zero =>
      rw [lEn, e] at p2
      cases p2
    | succ f =>
      rw [lPm, e] at p5 p9
      rw [lEn, e] at p2
      dsimp only at p2 p5 p9
      have go := p5 o (by simp)
      have ol := gdO_len go
      have vo := pv o go
      have bw := sWire_b t4 vo
      have pg := c_putGroup (N := N) (h := h) (a := a) (mf := mf) (ma := mO ma o b q) (p := 17) (gl := gl) (rs := rs) (ss := ss) (o := o) (n := n) hN (Or.inl rfl) hn h34 hnn rl sl ol (fun i hi => gdO_b go hi) bgl (i21' _ _ _) (i22' _ _ _) (i23' _ _ _) (by
        rw [mO_17, mA_2]
        exact rIs_list _ _)
      rw [mO_2, show mO ma o b q 2 = q from mA_2 _ _ _, p8] at pg
      rw [sBO] at p9
      dsimp only at p9
      have eo : mA (mA (mA ma 18 (rList b (ma 18))) 2 q) 17 (rList o (ma 17)) = mO ma o b q := (mO_17 ma o b q).symm
      dsimp only
      rw [Option.bind_some, eo]
      dsimp only
      rw [if_neg tb1, m_r27, Option.bind_some, if_pos m_isc, show a + 18 = a + 1 + 17 by omega, pg, Option.bind_some, if_pos m_isc, wv _ _ _ vo, Option.bind_some]
      dsimp only
      by_cases q3 : sWire (ma 1 4) (rGs (lPG gl rs ss o n) r) < m
      · rw [if_pos q3] at p9
        refine ⟨(f, o, o, sWire (ma 1 4) (rGs (lPG gl rs ss o n) r), rGs (lPG gl rs ss o n) r), ⟨by dsimp only; omega, p2, go, go, fun z hz => p5 z (by simp [hz]), bw, vo, fun z => pp z o, p9⟩, by dsimp only; omega, ?_⟩
        dsimp only
        have kp := c_keepOrder (N := N) (h := h) (a := a) (mf := mf) (ma := mA (mA ma 18 (rList b (ma 18))) 2 (rGs (lPG gl rs ss o n) r)) (l := o) (g := ma 17) hN (by omega)
        rw [← mO_17, ol, mA_n (by decide), mA_2, rList_rList (by omega)] at kp
        have ek : mA (mO ma o b (rGs (lPG gl rs ss o n) r)) 18 (rList o (ma 18)) = mO ma o o (rGs (lPG gl rs ss o n) r) := by
          unfold mO
          rw [mA_c (p := 2) (q := 18) (by decide), mA_mA]
        rw [if_neg (fun z => by have := (iI_le ⟨by omega, by omega⟩ ⟨by omega, by omega⟩).mp z; omega), m_g34, Option.bind_some, h34, if_pos m_isc, kp, Option.bind_some, ek, eq_X9_sortGroup_60]
      · rw [if_neg q3] at p9
        refine ⟨(f, o, b, m, rGs (lPG gl rs ss o n) r), ⟨by dsimp only; omega, p2, go, p4, fun z hz => p5 z (by simp [hz]), p6, vo, fun z => pp z o, p9⟩, by dsimp only; omega, ?_⟩
        dsimp only
        rw [if_pos ((iI_le ⟨by omega, by omega⟩ ⟨by omega, by omega⟩).mpr (by omega)), eq_X9_sortGroup_60]
end M45
