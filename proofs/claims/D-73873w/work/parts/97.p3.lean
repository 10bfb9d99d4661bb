/-! ===== the plain law: a window keeps cells lawful ===== -/
theorem wn_step {rows sites : Int} {r : Int → Int} {R fi lo F : Int} {ls : List Int} {j k : Nat} {o : List Int} (v : vOk r) (la : laOk rows sites r) (ov : ovOk r) (wn : wnOk r R fi lo ls) (s1 : rows ≤ 8) (s2 : sites ≤ 32) (hR : 0 ≤ R ∧ R < rows) (hfi : 0 ≤ fi ∧ fi + lo ≤ sites) (hrun : ∀ z, fi ≤ z → z < fi + lo → sBar r R z = false ∧ sFen r R z = F) (hk : 1 ≤ k) (hjk : j + k ≤ ls.length) (ho : o.Perm (idL k)) :
    (vOk (rGs (lPW r ls j k R o k) r) ∧ sameX r (rGs (lPW r ls j k R o k) r)) ∧ laOk rows sites (rGs (lPW r ls j k R o k) r) ∧ ovOk (rGs (lPW r ls j k R o k) r) ∧ wnOk (rGs (lPW r ls j k R o k) r) R fi lo (lWin ls j k o) := by
  have ok := v.1
  have g2 := ok.2.2.2.1
  -- the window's cells
  have hb : ∀ i, i < k → (lg o i).toNat < k := fun i hi => by have := perm_b ho hi; omega
  have hcell : ∀ i, i < k → (0 ≤ lg ls (j + (lg o i).toNat) ∧ lg ls (j + (lg o i).toNat) < r 2) ∧ 1 ≤ r (36 + 7 * lg ls (j + (lg o i).toNat)) ∧ r (36 + 7 * lg ls (j + (lg o i).toNat)) ≤ 6 ∧ r (36 + 7 * lg ls (j + (lg o i).toNat) + 1) = F := by
    intro i hi
    have hb' := hb i hi
    obtain ⟨c1, c2, c3, c4⟩ := wn.1 _ (lg_mem (l := ls) (i := j + (lg o i).toNat) (by omega))
    have hw := ok.2.2.2.2.2 _ c1.1 c1.2
    have lc := la _ c1.1 c1.2 (by omega)
    have l1 := lc.2.2.2 _ (Int.le_refl _) (by omega)
    rw [c2] at l1
    have l2 := hrun _ c3 (by omega)
    exact ⟨c1, hw.1, hw.2, by rw [← l1.2]; exact l2.2⟩
  have hdis : ∀ i m, i < k → m < k → i ≠ m → lg ls (j + (lg o i).toNat) ≠ lg ls (j + (lg o m).toNat) := by
    intro i m hi hm e z
    have hb1 := hb i hi
    have hb2 := hb m hm
    have ne := perm_ne ho hi hm e
    have p1 := perm_b ho hi
    have p2 := perm_b ho hm
    have c1 := hcell i hi
    have c2 := hcell m hm
    rcases Nat.lt_or_gt_of_ne (show (lg o i).toNat ≠ (lg o m).toNat by omega) with y | y
    · have := pw_lg wn.2.1 (i := j + (lg o i).toNat) (m := j + (lg o m).toNat) (by omega) (by omega)
      rw [z] at this
      omega
    · have := pw_lg wn.2.1 (i := j + (lg o m).toNat) (m := j + (lg o i).toNat) (by omega) (by omega)
      rw [z] at this
      omega
  have h0w := wn.1 _ (lg_mem (l := ls) (i := j) (by omega))
  have hlw := wn.1 _ (lg_mem (l := ls) (i := j + (k - 1)) (by omega))
  have hend := sPs_end (r := r) (ls := ls) (j := j) hk ho
  have hlo : ∀ i, i ≤ k → r (36 + 7 * lg ls j + 6) ≤ sPs r ls j k o i := by
    intro i hi
    by_cases e : i = 0
    · subst e
      rw [sPs]
      omega
    · have := sPs_mono ok wn hjk ho (i := 0) (m := i) (by omega) hi
      have c := hcell 0 (by omega)
      rw [sPs] at this
      omega
  have hhi : ∀ i, i < k → sPs r ls j k o i + r (36 + 7 * lg ls (j + (lg o i).toNat)) ≤ sPs r ls j k o k := fun i hi => sPs_mono ok wn hjk ho hi (Nat.le_refl k)
  have pw : (lPW r ls j k R o k).Pairwise (fun x y => x.1 ≠ y.1) := by
    have : ∀ n, n ≤ k → (lPW r ls j k R o n).Pairwise (fun x y => x.1 ≠ y.1) := by
      intro n
      induction n with
      | zero => intro _; simp [lPW]
      | succ n ih =>
        intro hn
        rw [lPW, List.pairwise_append]
        refine ⟨ih (by omega), by simp, ?_⟩
        intro x hx y hy
        rw [List.mem_singleton] at hy
        subst hy
        obtain ⟨i, i1, i2⟩ := lPW_fst hx
        subst i2
        exact hdis i n (by omega) (by omega) (by omega)
    exact this k (Nat.le_refl k)
  have good : vOk (rGs (lPW r ls j k R o k) r) ∧ sameX r (rGs (lPW r ls j k R o k) r) := by
    refine rGs_ok v ?_
    intro x hx
    obtain ⟨i, i1, i2⟩ := lPW_fst hx
    subst i2
    have c := hcell i i1
    have p1 := hlo i (by omega)
    have p2 := hhi i i1
    dsimp only
    exact ⟨by omega, by omega, by omega⟩
  have hin : ∀ i, i < k → rGs (lPW r ls j k R o k) r (36 + 7 * lg ls (j + (lg o i).toNat) + 5) = R ∧ rGs (lPW r ls j k R o k) r (36 + 7 * lg ls (j + (lg o i).toNat) + 6) = sPs r ls j k o i := fun i hi => rGs_get pw (lPW_mem hi)
  have hout : ∀ c, (∀ i, i < k → c ≠ lg ls (j + (lg o i).toNat)) → rGs (lPW r ls j k R o k) r (36 + 7 * c + 5) = r (36 + 7 * c + 5) ∧ rGs (lPW r ls j k R o k) r (36 + 7 * c + 6) = r (36 + 7 * c + 6) := by
    intro c hc
    have : ∀ x, x ∈ lPW r ls j k R o k → c ≠ x.1 := by
      intro x hx
      obtain ⟨i, i1, i2⟩ := lPW_fst hx
      subst i2
      exact hc i i1
    exact ⟨rGs_n (fun x hx => ⟨by have := this x hx; omega, by have := this x hx; omega⟩), rGs_n (fun x hx => ⟨by have := this x hx; omega, by have := this x hx; omega⟩)⟩
  -- others lie outside
  have far : ∀ c, 0 ≤ c → c < r 2 → (∀ i, i < k → c ≠ lg ls (j + (lg o i).toNat)) → r (36 + 7 * c + 5) = R → r (36 + 7 * c + 6) + r (36 + 7 * c) ≤ r (36 + 7 * lg ls j + 6) ∨ sPs r ls j k o k ≤ r (36 + 7 * c + 6) := by
    intro c c0 c1 hc hr
    have hw := ok.2.2.2.2.2 c c0 c1
    have notin : ∀ m, m < k → c ≠ lg ls (j + m) := by
      intro m hm
      obtain ⟨i, i1, i2⟩ := perm_on ho hm
      have := hc i i1
      rw [i2, Int.toNat_natCast] at this
      exact this
    have o1 := ov c (lg ls j) c0 c1 h0w.1.1 h0w.1.2 (by have := notin 0 (by omega); rw [Nat.add_zero] at this; exact this) (by omega) (by rw [hr, h0w.2.1])
    have o2 := ov c (lg ls (j + (k - 1))) c0 c1 hlw.1.1 hlw.1.2 (notin (k - 1) (by omega)) (by omega) (by rw [hr, hlw.2.1])
    have w0 := ok.2.2.2.2.2 _ h0w.1.1 h0w.1.2
    have w1 := ok.2.2.2.2.2 _ hlw.1.1 hlw.1.2
    rcases o1 with o1 | o1
    · exact Or.inl o1
    · rcases o2 with o2 | o2
      · have hin' := wn.2.2 c c0 c1 hr (by omega) (by omega)
        obtain ⟨m, m1, m2⟩ := lg_of_mem hin'
        by_cases e1 : m < j
        · have := pw_lg wn.2.1 (i := m) (m := j) e1 (by omega)
          rw [m2] at this
          exact Or.inl this
        · by_cases e2 : m < j + k
          · exfalso
            have := notin (m - j) (by omega)
            rw [show j + (m - j) = m by omega] at this
            exact this m2.symm
          · have := pw_lg wn.2.1 (i := j + (k - 1)) (m := m) (by omega) m1
            rw [m2] at this
            right
            omega
      · right
        omega
  generalize hq : rGs (lPW r ls j k R o k) r = q at good hin hout
  obtain ⟨vq, sx⟩ := good
  have q2 : q 2 = r 2 := sx 2 (by omega)
  have qw : ∀ c, 0 ≤ c → c < 20 → q (36 + 7 * c) = r (36 + 7 * c) ∧ q (36 + 7 * c + 1) = r (36 + 7 * c + 1) := fun c c0 c1 => ⟨sx _ (by omega), sx _ (by omega)⟩
  refine ⟨⟨vq, sx⟩, ?_, ?_, ?_⟩
  · intro c c0 c1 hon
    rw [q2] at c1
    have e := qw c c0 (by omega)
    rcases Classical.em (∃ i, i < k ∧ c = lg ls (j + (lg o i).toNat)) with ⟨i, i1, i2⟩ | no
    · obtain ⟨h5, h6⟩ := hin i i1
      have hc := hcell i i1
      rw [← i2] at h5 h6 hc
      have p1 := hlo i (by omega)
      have p2 := hhi i i1
      rw [← i2] at p2
      rw [h5, h6, e.1, e.2]
      refine ⟨hR, by omega, by omega, ?_⟩
      intro z z0 z1
      have := hrun z (by omega) (by omega)
      rw [sBar_x sx ok.2.1.1 ok.2.1.2, sFen_x sx ok.2.2.1.1 ok.2.2.1.2, hc.2.2.2]
      exact this
    · obtain ⟨h5, h6⟩ := hout c (fun i hi z => no ⟨i, hi, z⟩)
      rw [h5] at hon
      have := la c c0 c1 hon
      rw [h5, h6, e.1, e.2]
      refine ⟨this.1, this.2.1, this.2.2.1, ?_⟩
      intro z z0 z1
      rw [sBar_x sx ok.2.1.1 ok.2.1.2, sFen_x sx ok.2.2.1.1 ok.2.2.1.2]
      exact this.2.2.2 z z0 z1
  · intro c d c0 c1 d0 d1 hne hon heq
    rw [q2] at c1 d1
    have e := qw c c0 (by omega)
    have e' := qw d d0 (by omega)
    rw [e.1, e'.1]
    rcases Classical.em (∃ i, i < k ∧ c = lg ls (j + (lg o i).toNat)) with ⟨i, i1, i2⟩ | no
    · obtain ⟨h5, h6⟩ := hin i i1
      rw [← i2] at h5 h6
      have p1 := hlo i (by omega)
      have p2 := hhi i i1
      rw [← i2] at p2
      rcases Classical.em (∃ m, m < k ∧ d = lg ls (j + (lg o m).toNat)) with ⟨m, m1, m2⟩ | no2
      · obtain ⟨g5, g6⟩ := hin m m1
        rw [← m2] at g5 g6
        rw [h6, g6]
        have im : i ≠ m := by
          intro z
          subst z
          exact hne (by rw [i2, m2])
        rcases Nat.lt_or_gt_of_ne im with y | y
        · have := sPs_mono ok wn hjk ho y (by omega)
          rw [← i2] at this
          exact Or.inl this
        · have := sPs_mono ok wn hjk ho y (by omega)
          rw [← m2] at this
          exact Or.inr this
      · obtain ⟨g5, g6⟩ := hout d (fun m hm z => no2 ⟨m, hm, z⟩)
        rw [h6, g6]
        have := far d d0 d1 (fun m hm z => no2 ⟨m, hm, z⟩) (by rw [← g5, ← heq, h5])
        omega
    · obtain ⟨h5, h6⟩ := hout c (fun i hi z => no ⟨i, hi, z⟩)
      rcases Classical.em (∃ m, m < k ∧ d = lg ls (j + (lg o m).toNat)) with ⟨m, m1, m2⟩ | no2
      · obtain ⟨g5, g6⟩ := hin m m1
        rw [← m2] at g5 g6
        rw [h6, g6]
        have p1 := hlo m (by omega)
        have p2 := hhi m m1
        rw [← m2] at p2
        have := far c c0 c1 (fun i hi z => no ⟨i, hi, z⟩) (by rw [← h5, heq, g5])
        omega
      · obtain ⟨g5, g6⟩ := hout d (fun m hm z => no2 ⟨m, hm, z⟩)
        rw [h6, g6]
        exact ov c d c0 c1 d0 d1 hne (by rw [← h5]; exact hon) (by rw [← h5, ← g5]; exact heq)
  · -- the new list
    have wl : ∀ m, m < ls.length → (j ≤ m ∧ m < j + k → lg (lWin ls j k o) m = lg ls (j + (lg o (m - j)).toNat)) ∧ (¬ (j ≤ m ∧ m < j + k) → lg (lWin ls j k o) m = lg ls m) := by
      intro m hm
      rw [lWin_lg hm]
      exact ⟨fun z => if_pos z, fun z => if_neg z⟩
    have outc : ∀ m, m < ls.length → ¬ (j ≤ m ∧ m < j + k) → ∀ i, i < k → lg ls m ≠ lg ls (j + (lg o i).toNat) := by
      intro m hm hn i hi z
      have hb1 := hb i hi
      have c1 := (wn.1 _ (lg_mem hm)).1
      have w1 := ok.2.2.2.2.2 _ c1.1 c1.2
      rcases Nat.lt_or_gt_of_ne (show m ≠ j + (lg o i).toNat by omega) with y | y
      · have := pw_lg wn.2.1 y (by omega)
        rw [← z] at this
        omega
      · have := pw_lg wn.2.1 y hm
        rw [← z] at this
        omega
    refine ⟨?_, ?_, ?_⟩
    · intro c hc
      obtain ⟨m, m1, m2⟩ := lg_of_mem hc
      rw [lWin_len] at m1
      by_cases e : j ≤ m ∧ m < j + k
      · rw [(wl m m1).1 e] at m2
        have mk : m - j < k := by omega
        obtain ⟨h5, h6⟩ := hin (m - j) mk
        have hc' := hcell (m - j) mk
        have p1 := hlo (m - j) (by omega)
        have p2 := hhi (m - j) mk
        rw [m2] at h5 h6 hc' p2
        rw [q2, h5, h6, (qw c hc'.1.1 (by omega)).1]
        exact ⟨hc'.1, rfl, by omega, by omega⟩
      · rw [(wl m m1).2 e] at m2
        have hm := wn.1 _ (lg_mem m1)
        obtain ⟨h5, h6⟩ := hout (lg ls m) (outc m m1 e)
        rw [m2] at hm h5 h6
        rw [q2, h5, h6, (qw c hm.1.1 (by omega)).1]
        exact hm
    · refine lg_pw ?_
      intro i m him hm
      rw [lWin_len] at hm
      by_cases e1 : j ≤ i ∧ i < j + k
      · have ik : i - j < k := by omega
        obtain ⟨h5, h6⟩ := hin (i - j) ik
        have hc1 := hcell (i - j) ik
        rw [(wl i (by omega)).1 e1, h6, (qw _ hc1.1.1 (by omega)).1]
        by_cases e2 : j ≤ m ∧ m < j + k
        · have mk : m - j < k := by omega
          obtain ⟨g5, g6⟩ := hin (m - j) mk
          rw [(wl m hm).1 e2, g6]
          exact sPs_mono ok wn hjk ho (by omega) (by omega)
        · obtain ⟨g5, g6⟩ := hout (lg ls m) (outc m hm e2)
          rw [(wl m hm).2 e2, g6]
          have p2 := hhi (i - j) ik
          have := pw_lg wn.2.1 (i := j + (k - 1)) (m := m) (by omega) hm
          omega
      · obtain ⟨h5, h6⟩ := hout (lg ls i) (outc i (by omega) e1)
        have hci := (wn.1 _ (lg_mem (l := ls) (i := i) (by omega))).1
        rw [(wl i (by omega)).2 e1, h6, (qw _ hci.1 (by omega)).1]
        by_cases e2 : j ≤ m ∧ m < j + k
        · have mk : m - j < k := by omega
          obtain ⟨g5, g6⟩ := hin (m - j) mk
          rw [(wl m hm).1 e2, g6]
          have p1 := hlo (m - j) (by omega)
          have := pw_lg wn.2.1 (i := i) (m := j) (by omega) (by omega)
          omega
        · obtain ⟨g5, g6⟩ := hout (lg ls m) (outc m hm e2)
          rw [(wl m hm).2 e2, g6]
          exact pw_lg wn.2.1 him hm
    · intro c c0 c1 hr hs0 hs1
      rw [q2] at c1
      rcases Classical.em (∃ i, i < k ∧ c = lg ls (j + (lg o i).toNat)) with ⟨i, i1, i2⟩ | no
      · have : lg (lWin ls j k o) (j + i) ∈ lWin ls j k o := lg_mem (by rw [lWin_len]; omega)
        rw [(wl (j + i) (by omega)).1 (by omega), show j + i - j = i by omega, ← i2] at this
        exact this
      · obtain ⟨h5, h6⟩ := hout c (fun i hi z => no ⟨i, hi, z⟩)
        rw [h5] at hr
        rw [h6] at hs0 hs1
        have hin' := wn.2.2 c c0 c1 hr hs0 hs1
        obtain ⟨m, m1, m2⟩ := lg_of_mem hin'
        have e : ¬ (j ≤ m ∧ m < j + k) := by
          intro z
          obtain ⟨i, i1, i2⟩ := perm_on ho (show m - j < k by omega)
          refine no ⟨i, i1, ?_⟩
          rw [i2, Int.toNat_natCast, show j + (m - j) = m by omega]
          exact m2.symm
        have : lg (lWin ls j k o) m ∈ lWin ls j k o := lg_mem (by rw [lWin_len]; omega)
        rw [(wl m m1).2 e, m2] at this
        exact this
