/-! ===== the plain law: cells lie lawfully ===== -/
/-- cells that are on lie in the chip, on sites that aren't barred and are their fence's -/
def laOk (rows sites : Int) (r : Int → Int) : Prop := ∀ c : Int, 0 ≤ c → c < r 2 → r (36 + 7 * c + 5) ≠ -1 → (0 ≤ r (36 + 7 * c + 5) ∧ r (36 + 7 * c + 5) < rows) ∧ 0 ≤ r (36 + 7 * c + 6) ∧ r (36 + 7 * c + 6) + r (36 + 7 * c) ≤ sites ∧ ∀ k, r (36 + 7 * c + 6) ≤ k → k < r (36 + 7 * c + 6) + r (36 + 7 * c) → sBar r (r (36 + 7 * c + 5)) k = false ∧ sFen r (r (36 + 7 * c + 5)) k = r (36 + 7 * c + 1)
/-- no two of them overlap -/
def ovOk (r : Int → Int) : Prop := ∀ c d : Int, 0 ≤ c → c < r 2 → 0 ≤ d → d < r 2 → c ≠ d → r (36 + 7 * c + 5) ≠ -1 → r (36 + 7 * c + 5) = r (36 + 7 * d + 5) → r (36 + 7 * c + 6) + r (36 + 7 * c) ≤ r (36 + 7 * d + 6) ∨ r (36 + 7 * d + 6) + r (36 + 7 * d) ≤ r (36 + 7 * c + 6)
theorem aR_max (p : Nat → Bool) (n : Nat) : ∀ x, x ∈ (aR p n).1 → p (x.1 + x.2) = false := by
  induction n with
  | zero => simp [aR]
  | succ n ih =>
    have ok := (aR_ok p n).1
    rw [aR]
    split
    · exact ih
    · next q =>
      dsimp only
      split
      · exact ih
      · intro x hx
        rw [List.mem_append, List.mem_singleton] at hx
        rcases hx with hx | hx
        · exact ih x hx
        · subst hx
          dsimp only
          rw [show n - (aR p n).2 + (aR p n).2 = n by omega]
          simpa using q
theorem lAll_max {rows sites : Int} {r : Int → Int} (n : Nat) {x : Int × Int × Int × Int} (hx : x ∈ lAll rows sites r n) : sRunS rows sites r x.1 (x.2.2.1 + x.2.2.2) x.2.1 = false := by
  have row : ∀ R F s, x ∈ lRow rows sites r R F s → sRunS rows sites r x.1 (x.2.2.1 + x.2.2.2) x.2.1 = false := by
    intro R F s h
    unfold lRow at h
    rw [List.mem_map] at h
    obtain ⟨y, h1, h2⟩ := h
    have := aR_max _ _ y h1
    subst h2
    dsimp only
    rw [← this, Int.natCast_add]
  have rown : ∀ R f, x ∈ lRowN rows sites r R f → sRunS rows sites r x.1 (x.2.2.1 + x.2.2.2) x.2.1 = false := by
    intro R f h
    induction f with
    | zero => simp [lRowN] at h
    | succ f ih =>
      rw [lRowN, List.mem_append] at h
      rcases h with h | h
      · exact ih h
      · exact row _ _ _ h
  induction n with
  | zero => simp [lAll] at hx
  | succ n ih =>
    rw [lAll, List.mem_append] at hx
    rcases hx with hx | hx
    · exact ih hx
    · exact rown _ _ hx
theorem sCov_iff {r : Int → Int} {R S : Int} {c : Nat} : sCov r R S c = true ↔ r (36 + 7 * c + 5) = R ∧ r (36 + 7 * c + 6) ≤ S ∧ S < r (36 + 7 * c + 6) + r (36 + 7 * c) := by
  unfold sCov vIn
  rw [Bool.and_eq_true, decide_eq_true_eq, decide_eq_true_eq]
  constructor
  · rintro ⟨a, b, c⟩; exact ⟨a, b, by omega⟩
  · rintro ⟨a, b, c⟩; exact ⟨a, b, by omega⟩
theorem sThere_all (r : Int → Int) (R S : Int) (c : Nat) : sThere r R S (-1) false c = sCov r R S c := by
  unfold sThere
  have : ¬ (c : Int) = -1 := by omega
  simp [this]
/-- the one cell at a site -/
theorem sCel_at {r : Int → Int} {R S c : Int} (ov : ovOk r) (hR : R ≠ -1) (h0 : 0 ≤ c) (h1 : c < r 2) (hr : r (36 + 7 * c + 5) = R) (hs : r (36 + 7 * c + 6) ≤ S) (ht : S < r (36 + 7 * c + 6) + r (36 + 7 * c)) : sCel r R S (-1) false = c := by
  obtain ⟨k, rfl⟩ : ∃ k : Nat, c = k := ⟨c.toNat, by omega⟩
  unfold sCel
  refine aL_uniq (by omega) ?_ ?_
  · rw [sThere_all, sCov_iff]
    exact ⟨hr, hs, ht⟩
  · intro j hj hp
    rw [sThere_all, sCov_iff] at hp
    by_cases e : (j : Int) = k
    · omega
    · have := ov k j (by omega) h1 (by omega) (by omega) (by omega) (by rw [hr]; exact hR) (by rw [hr, hp.1])
      omega
theorem sCel_cov {r : Int → Int} {R S : Int} {fx : Bool} {but : Int} (h : sCel r R S but fx ≠ -1) : (0 ≤ sCel r R S but fx ∧ sCel r R S but fx < r 2) ∧ r (36 + 7 * sCel r R S but fx + 5) = R ∧ r (36 + 7 * sCel r R S but fx + 6) ≤ S ∧ S < r (36 + 7 * sCel r R S but fx + 6) + r (36 + 7 * sCel r R S but fx) := by
  have b := aL_range (p := sThere r R S but fx) (n := (r 2).toNat)
  unfold sCel at h ⊢
  obtain ⟨k, hk⟩ : ∃ k : Nat, aL (sThere r R S but fx) (r 2).toNat = k := ⟨(aL (sThere r R S but fx) (r 2).toNat).toNat, by omega⟩
  obtain ⟨h1, h2⟩ := aL_some hk
  rw [hk]
  unfold sThere at h2
  simp only [Bool.and_eq_true] at h2
  exact ⟨by omega, sCov_iff.mp h2.2.1⟩
theorem sCel_none {r : Int → Int} {R S but : Int} {fx : Bool} (h : sCel r R S but fx = -1) {c : Nat} (hc : (c : Int) < r 2) (hb : (c : Int) ≠ but) (hf : fx = true → sFix r c = true) : ¬ (r (36 + 7 * c + 5) = R ∧ r (36 + 7 * c + 6) ≤ S ∧ S < r (36 + 7 * c + 6) + r (36 + 7 * c)) := by
  unfold sCel at h
  rw [aL_none, aP_false] at h
  have := h c (by omega)
  unfold sThere at this
  rw [← sCov_iff]
  intro z
  rw [z, decide_eq_true hb] at this
  cases fx with
  | false => simp at this
  | true => rw [hf rfl] at this; simp at this
/-! cells of a run -/
theorem lLies_in {r : Int → Int} {R fi : Int} {n : Nat} (h2 : 0 ≤ r 2) : ∀ c, c ∈ lLies r R fi n → (0 ≤ c ∧ c < r 2) ∧ r (36 + 7 * c + 5) = R ∧ fi ≤ r (36 + 7 * c + 6) ∧ r (36 + 7 * c + 6) < fi + n := by
  induction n with
  | zero => simp [lLies]
  | succ n ih =>
    intro c hc
    rw [lLies] at hc
    split at hc
    · next q =>
      rw [List.mem_append, List.mem_singleton] at hc
      rcases hc with hc | hc
      · have := ih c hc
        exact ⟨this.1, this.2.1, this.2.2.1, by omega⟩
      · have := sCel_cov q.1
        subst hc
        exact ⟨this.1, this.2.1, by omega, by omega⟩
    · have := ih c hc
      exact ⟨this.1, this.2.1, this.2.2.1, by omega⟩
theorem lLies_pw {r : Int → Int} {R fi : Int} {n : Nat} (h2 : 0 ≤ r 2) : (lLies r R fi n).Pairwise (fun c d => r (36 + 7 * c + 6) < r (36 + 7 * d + 6)) := by
  induction n with
  | zero => simp [lLies]
  | succ n ih =>
    rw [lLies]
    split
    · next q =>
      rw [List.pairwise_append]
      refine ⟨ih, by simp, ?_⟩
      intro c hc d hd
      rw [List.mem_singleton] at hd
      subst hd
      have := lLies_in h2 c hc
      omega
    · exact ih
theorem lLies_all {r : Int → Int} {R fi : Int} {n : Nat} (ov : ovOk r) (hR : R ≠ -1) {c : Int} (h0 : 0 ≤ c) (h1 : c < r 2) (hw : 1 ≤ r (36 + 7 * c)) (hr : r (36 + 7 * c + 5) = R) (hs : fi ≤ r (36 + 7 * c + 6)) (ht : r (36 + 7 * c + 6) < fi + n) : c ∈ lLies r R fi n := by
  induction n with
  | zero => omega
  | succ n ih =>
    rw [lLies]
    by_cases e : r (36 + 7 * c + 6) = fi + n
    · have := sCel_at (S := fi + n) ov hR h0 h1 hr (by omega) (by omega)
      rw [this, if_pos ⟨by omega, e⟩, List.mem_append]
      exact Or.inr (by simp)
    · have := ih (by omega)
      split
      · rw [List.mem_append]
        exact Or.inl this
      · exact this
/-- the state of a run while its windows are gone through -/
def wnOk (r : Int → Int) (R fi lo : Int) (ls : List Int) : Prop :=
  (∀ c, c ∈ ls → (0 ≤ c ∧ c < r 2) ∧ r (36 + 7 * c + 5) = R ∧ fi ≤ r (36 + 7 * c + 6) ∧ r (36 + 7 * c + 6) + r (36 + 7 * c) ≤ fi + lo) ∧ ls.Pairwise (fun c d => r (36 + 7 * c + 6) + r (36 + 7 * c) ≤ r (36 + 7 * d + 6)) ∧ ∀ c : Int, 0 ≤ c → c < r 2 → r (36 + 7 * c + 5) = R → fi ≤ r (36 + 7 * c + 6) → r (36 + 7 * c + 6) < fi + lo → c ∈ ls
theorem sRunS_iff {rows sites : Int} {r : Int → Int} {R S F : Int} : sRunS rows sites r R S F = true ↔ (0 ≤ R ∧ R ≤ rows - 1) ∧ (0 ≤ S ∧ S ≤ sites - 1) ∧ sBar r R S = false ∧ sCel r R S (-1) true = -1 ∧ sFen r R S = F := by
  unfold sRunS vIn
  simp only [Bool.and_eq_true, decide_eq_true_eq, Bool.not_eq_true']
  constructor
  · rintro ⟨⟨a, b⟩, c, d, e⟩; exact ⟨a, b, c, d, e⟩
  · rintro ⟨a, b, c, d, e⟩; exact ⟨⟨a, b⟩, c, d, e⟩
theorem wn_init {rows sites : Int} {r : Int → Int} (ok : rOk r) (la : laOk rows sites r) (ov : ovOk r) (s1 : 1 ≤ rows ∧ rows ≤ 8) (hs : 0 ≤ sites) {x : Int × Int × Int × Int} {n : Nat} (hx : x ∈ lAll rows sites r n) : wnOk r x.1 x.2.2.1 x.2.2.2 (lLies r x.1 x.2.2.1 x.2.2.2.toNat) := by
  obtain ⟨a1, a2, a3, a4, a5, a6⟩ := lAll_ok n hs hx
  have mx := lAll_max n hx
  have g2 := ok.2.2.2.1
  have en : ((x.2.2.2.toNat : Nat) : Int) = x.2.2.2 := by omega
  have R1 : x.1 ≠ -1 := by omega
  refine ⟨?_, ?_, ?_⟩
  · intro c hc
    obtain ⟨b1, b2, b3, b4⟩ := lLies_in g2.1 c hc
    rw [en] at b4
    refine ⟨b1, b2, b3, ?_⟩
    have hw := ok.2.2.2.2.2 c b1.1 b1.2
    have lc := la c b1.1 b1.2 (by omega)
    rcases Int.lt_or_le (x.2.2.1 + x.2.2.2) (r (36 + 7 * c + 6) + r (36 + 7 * c)) with z | z
    · exfalso
      have s0 := sRunS_iff.mp (a6 (r (36 + 7 * c + 6)) b3 b4)
      have s1 := lc.2.2.2 (r (36 + 7 * c + 6)) (by omega) (by omega)
      rw [b2] at s1
      have s2 := lc.2.2.2 (x.2.2.1 + x.2.2.2) (by omega) z
      rw [b2] at s2
      have nf : ∀ k, r (36 + 7 * c + 6) ≤ k → k < r (36 + 7 * c + 6) + r (36 + 7 * c) → sCel r x.1 k (-1) true = -1 := by
        intro k k0 k1
        rcases Classical.em (sCel r x.1 k (-1) true = -1) with y | y
        · exact y
        · exfalso
          have cv := sCel_cov y
          generalize hd : sCel r x.1 k (-1) true = d at cv y
          have dn : (d : Int) ≠ c := by
            intro e
            have f0 := s0.2.2.2.1
            obtain ⟨m, hm⟩ : ∃ m : Nat, d = m := ⟨d.toNat, by omega⟩
            have fx : sFix r m = true := by
              have hal : aL (sThere r x.1 k (-1) true) (r 2).toNat = m := by
                have : sCel r x.1 k (-1) true = m := by rw [hd, hm]
                exact this
              have := (aL_some hal).2
              unfold sThere at this
              simp only [Bool.and_eq_true, Bool.not_true, Bool.false_or] at this
              exact this.2.2
            refine sCel_none f0 (c := m) (by omega) (by omega) (fun _ => fx) ?_
            have emc : (m : Int) = c := by omega
            rw [emc]
            exact ⟨b2, by omega, by omega⟩
          have := ov c d b1.1 b1.2 cv.1.1 cv.1.2 (fun e => dn e.symm) (by omega) (by rw [b2, cv.2.1])
          omega
      have : sRunS rows sites r x.1 (x.2.2.1 + x.2.2.2) x.2.1 = true := by
        rw [sRunS_iff]
        exact ⟨s0.1, by omega, s2.1, nf _ (by omega) z, by rw [s2.2, ← s1.2]; exact s0.2.2.2.2⟩
      rw [mx] at this
      cases this
    · exact z
  · refine List.Pairwise.imp_of_mem ?_ (lLies_pw (r := r) (R := x.1) (fi := x.2.2.1) (n := x.2.2.2.toNat) g2.1)
    intro c d hc hd hlt
    obtain ⟨b1, b2, b3, b4⟩ := lLies_in g2.1 c hc
    obtain ⟨d1, d2, d3, d4⟩ := lLies_in g2.1 d hd
    have hw := ok.2.2.2.2.2 c b1.1 b1.2
    have hw2 := ok.2.2.2.2.2 d d1.1 d1.2
    have := ov c d b1.1 b1.2 d1.1 d1.2 (by intro e; subst e; omega) (by omega) (by rw [b2, d2])
    omega
  · intro c c0 c1 hr hs0 hs1
    exact lLies_all ov R1 c0 c1 (ok.2.2.2.2.2 c c0 c1).1 hr hs0 (by omega)
