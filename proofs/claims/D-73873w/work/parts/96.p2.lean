/-! ===== the plain law: a window in another order ===== -/
set_option maxRecDepth 100000 in
set_option maxHeartbeats 4000000 in
theorem pm_perm : ∀ n : Fin 6, (idL n.val :: lPm 120 (idL n.val)).all (fun o => o.isPerm (idL n.val)) = true := by decide
theorem perm_sum {l l' : List Int} (h : l.Perm l') (f : Int → Int) : (l.map f).sum = (l'.map f).sum := by
  induction h with
  | nil => rfl
  | cons x _ ih => simp [ih]
  | swap x y l => simp; omega
  | trans _ _ i1 i2 => rw [i1, i2]
theorem aS_list (o : List Int) (f : Int → Int) (n : Nat) (hn : n ≤ o.length) : aS (fun m => f (lg o m)) n = ((o.take n).map f).sum := by
  induction n with
  | zero => simp [aS]
  | succ n ih =>
    rw [aS, ih (by omega), List.take_succ_eq_append_getElem (by omega), List.map_append, List.sum_append]
    simp [lg, show n < o.length by omega]
theorem idL_lg {n m : Nat} (h : m < n) : lg (idL n) m = m := by
  induction n with
  | zero => omega
  | succ n ih =>
    rw [idL]
    by_cases e : m = n
    · subst e
      have := idL_len m
      simp [lg, this]
    · have := ih (by omega)
      unfold lg at this ⊢
      rw [List.getElem?_append_left (by rw [idL_len]; omega)]
      exact this
theorem perm_aS {o : List Int} {k : Nat} (h : o.Perm (idL k)) (f : Int → Int) : aS (fun m => f (lg o m)) k = aS (fun m => f m) k := by
  have hl : o.length = k := by rw [h.length_eq, idL_len]
  have e1 := aS_list o f k (by omega)
  have e2 := aS_list (idL k) f k (by rw [idL_len]; omega)
  rw [List.take_of_length_le (by omega)] at e1
  rw [List.take_of_length_le (by rw [idL_len]; omega)] at e2
  rw [e1, perm_sum h f, ← e2]
  refine aS_congr (fun m hm => ?_)
  rw [idL_lg hm]
theorem idL_nodup (k : Nat) : (idL k).Nodup := by
  induction k with
  | zero => simp [idL]
  | succ k ih =>
    rw [idL, List.nodup_append]
    refine ⟨ih, by simp, ?_⟩
    intro a ha b hb
    rw [List.mem_singleton] at hb
    have : ∀ n x, x ∈ idL n → 0 ≤ x ∧ x < n := by
      intro n
      induction n with
      | zero => simp [idL]
      | succ n ih2 =>
        intro x hx
        rw [idL, List.mem_append, List.mem_singleton] at hx
        rcases hx with hx | hx
        · have := ih2 x hx; omega
        · omega
    have := this k a ha
    omega
theorem perm_ne {o : List Int} {k i m : Nat} (h : o.Perm (idL k)) (hi : i < k) (hm : m < k) (e : i ≠ m) : lg o i ≠ lg o m := by
  have hl : o.length = k := by rw [h.length_eq, idL_len]
  have nd : o.Nodup := h.nodup_iff.mpr (idL_nodup k)
  have e1 : lg o i = o[i]'(by omega) := by simp [lg, show i < o.length by omega]
  have e2 : lg o m = o[m]'(by omega) := by simp [lg, show m < o.length by omega]
  rw [e1, e2]
  exact nodup_ne nd (by omega) (by omega) e
theorem perm_b {o : List Int} {k i : Nat} (h : o.Perm (idL k)) (hi : i < k) : 0 ≤ lg o i ∧ lg o i < k := by
  have hl : o.length = k := by rw [h.length_eq, idL_len]
  have e1 : lg o i = o[i]'(by omega) := by simp [lg, show i < o.length by omega]
  have hm : o[i]'(by omega) ∈ idL k := h.mem_iff.mp (List.getElem_mem _)
  rw [e1]
  have : ∀ n x, x ∈ idL n → 0 ≤ x ∧ x < n := by
    intro n
    induction n with
    | zero => simp [idL]
    | succ n ih2 =>
      intro x hx
      rw [idL, List.mem_append, List.mem_singleton] at hx
      rcases hx with hx | hx
      · have := ih2 x hx; omega
      · omega
  exact this k _ hm
theorem perm_on {o : List Int} {k : Nat} (h : o.Perm (idL k)) {m : Nat} (hm : m < k) : ∃ i, i < k ∧ lg o i = m := by
  have hl : o.length = k := by rw [h.length_eq, idL_len]
  have : (m : Int) ∈ o := h.mem_iff.mpr (idL_mem k m (by omega) (by omega))
  obtain ⟨i, hi, e⟩ := List.getElem_of_mem this
  exact ⟨i, by omega, by simp [lg, hi, e]⟩
theorem rGs_get {l : List (Int × Int × Int)} {r : Int → Int} (hd : l.Pairwise (fun x y => x.1 ≠ y.1)) {x : Int × Int × Int} (hx : x ∈ l) : rGs l r (36 + 7 * x.1 + 5) = x.2.1 ∧ rGs l r (36 + 7 * x.1 + 6) = x.2.2 := by
  induction l generalizing r with
  | nil => simp at hx
  | cons y t ih =>
    rw [List.pairwise_cons] at hd
    rw [List.mem_cons] at hx
    rw [rGs_cons]
    rcases hx with hx | hx
    · subst hx
      rw [rGs_n (fun z hz => ⟨by have := hd.1 z hz; omega, by have := hd.1 z hz; omega⟩), rGs_n (fun z hz => ⟨by have := hd.1 z hz; omega, by have := hd.1 z hz; omega⟩), rGive_row, rGive_site]
      exact ⟨rfl, rfl⟩
    · exact ih hd.2 hx
/-- gaps of a window; where its cells come; what is given -/
def sGap (r : Int → Int) (ls : List Int) (j k i : Nat) : Int := if i + 1 < k then r (36 + 7 * lg ls (j + i + 1) + 6) - r (36 + 7 * lg ls (j + i) + 6) - r (36 + 7 * lg ls (j + i)) else 0
def sPs (r : Int → Int) (ls : List Int) (j k : Nat) (o : List Int) : Nat → Int
  | 0 => r (36 + 7 * lg ls j + 6)
  | i + 1 => sPs r ls j k o i + (r (36 + 7 * lg ls (j + (lg o i).toNat)) + sGap r ls j k i)
def lPW (r : Int → Int) (ls : List Int) (j k : Nat) (R : Int) (o : List Int) : Nat → List (Int × Int × Int)
  | 0 => []
  | i + 1 => lPW r ls j k R o i ++ [(lg ls (j + (lg o i).toNat), R, sPs r ls j k o i)]
theorem lPW_fst {r : Int → Int} {ls : List Int} {j k : Nat} {R : Int} {o : List Int} {n : Nat} {x : Int × Int × Int} (h : x ∈ lPW r ls j k R o n) : ∃ i, i < n ∧ x = (lg ls (j + (lg o i).toNat), R, sPs r ls j k o i) := by
  induction n with
  | zero => simp [lPW] at h
  | succ n ih =>
    rw [lPW, List.mem_append, List.mem_singleton] at h
    rcases h with h | h
    · obtain ⟨i, i1, i2⟩ := ih h
      exact ⟨i, by omega, i2⟩
    · exact ⟨n, by omega, h⟩
theorem lPW_mem {r : Int → Int} {ls : List Int} {j k : Nat} {R : Int} {o : List Int} {n i : Nat} (h : i < n) : (lg ls (j + (lg o i).toNat), R, sPs r ls j k o i) ∈ lPW r ls j k R o n := by
  induction n with
  | zero => omega
  | succ n ih =>
    rw [lPW, List.mem_append, List.mem_singleton]
    by_cases e : i = n
    · subst e; exact Or.inr rfl
    · exact Or.inl (ih (by omega))
/-- the list behind a window -/
def lWin (ls : List Int) (j k : Nat) (o : List Int) : List Int := (List.range ls.length).map (fun m => if j ≤ m ∧ m < j + k then lg ls (j + (lg o (m - j)).toNat) else lg ls m)
theorem lWin_len (ls : List Int) (j k : Nat) (o : List Int) : (lWin ls j k o).length = ls.length := by simp [lWin]
theorem lWin_lg {ls : List Int} {j k : Nat} {o : List Int} {m : Nat} (h : m < ls.length) : lg (lWin ls j k o) m = if j ≤ m ∧ m < j + k then lg ls (j + (lg o (m - j)).toNat) else lg ls m := by
  conv => lhs; unfold lg lWin
  simp [h]
theorem lg_mem {l : List Int} {i : Nat} (h : i < l.length) : lg l i ∈ l := by
  have : lg l i = l[i] := by simp [lg, h]
  rw [this]
  exact List.getElem_mem h
theorem lg_of_mem {l : List Int} {x : Int} (h : x ∈ l) : ∃ i, i < l.length ∧ lg l i = x := by
  obtain ⟨i, hi, e⟩ := List.getElem_of_mem h
  exact ⟨i, hi, by simp [lg, hi, e]⟩
theorem pw_lg {l : List Int} {P : Int → Int → Prop} (h : l.Pairwise P) {i m : Nat} (hi : i < m) (hm : m < l.length) : P (lg l i) (lg l m) := by
  have := List.pairwise_iff_getElem.mp h i m (by omega) hm hi
  have e1 : lg l i = l[i]'(by omega) := by simp [lg, show i < l.length by omega]
  have e2 : lg l m = l[m] := by simp [lg, hm]
  rw [e1, e2]
  exact this
theorem lg_pw {l : List Int} {P : Int → Int → Prop} (h : ∀ i m, i < m → m < l.length → P (lg l i) (lg l m)) : l.Pairwise P := by
  rw [List.pairwise_iff_getElem]
  intro i m hi hm him
  have := h i m him hm
  have e1 : lg l i = l[i] := by simp [lg, hi]
  have e2 : lg l m = l[m] := by simp [lg, hm]
  rw [e1, e2] at this
  exact this
theorem gap_nn {r : Int → Int} {R fi lo : Int} {ls : List Int} (wn : wnOk r R fi lo ls) {j k : Nat} (hjk : j + k ≤ ls.length) (i : Nat) : 0 ≤ sGap r ls j k i := by
  unfold sGap
  split
  · have := pw_lg wn.2.1 (i := j + i) (m := j + i + 1) (by omega) (by omega)
    omega
  · omega
/-- where it ends -/
theorem sPs_sum (r : Int → Int) (ls : List Int) (j k : Nat) (o : List Int) (i : Nat) : sPs r ls j k o i = r (36 + 7 * lg ls j + 6) + aS (fun m => r (36 + 7 * lg ls (j + (lg o m).toNat))) i + aS (sGap r ls j k) i := by
  induction i with
  | zero => simp [sPs, aS]
  | succ i ih => rw [sPs, ih, aS, aS]; omega
theorem tele (r : Int → Int) (ls : List Int) (j k i : Nat) (hi : i + 1 ≤ k) : r (36 + 7 * lg ls j + 6) + aS (fun m => r (36 + 7 * lg ls (j + m))) i + aS (sGap r ls j k) i = r (36 + 7 * lg ls (j + i) + 6) := by
  induction i with
  | zero => simp [aS]
  | succ i ih =>
    have := ih (by omega)
    rw [aS, aS]
    unfold sGap at this ⊢
    rw [if_pos (by omega), show j + i + 1 = j + (i + 1) by omega]
    omega
theorem sPs_end {r : Int → Int} {ls : List Int} {j k : Nat} {o : List Int} (hk : 1 ≤ k) (ho : o.Perm (idL k)) : sPs r ls j k o k = r (36 + 7 * lg ls (j + (k - 1)) + 6) + r (36 + 7 * lg ls (j + (k - 1))) := by
  have e1 := sPs_sum r ls j k o k
  have e2 := perm_aS ho (fun z => r (36 + 7 * lg ls (j + z.toNat)))
  simp only [Int.toNat_natCast] at e2
  have e3 := tele r ls j k (k - 1) (by omega)
  obtain ⟨k', rfl⟩ : ∃ k', k = k' + 1 := ⟨k - 1, by omega⟩
  have e4 : aS (fun m : Nat => r (36 + 7 * lg ls (j + m))) (k' + 1) = aS (fun m : Nat => r (36 + 7 * lg ls (j + m))) k' + r (36 + 7 * lg ls (j + k')) := rfl
  have e5 : aS (sGap r ls j (k' + 1)) (k' + 1) = aS (sGap r ls j (k' + 1)) k' + 0 := by
    rw [aS]
    unfold sGap
    rw [if_neg (by omega)]
  rw [show k' + 1 - 1 = k' by omega] at e3 ⊢
  rw [e1, e2, e4, e5]
  omega
theorem sPs_mono {r : Int → Int} {R fi lo : Int} {ls : List Int} {j k : Nat} {o : List Int} (ok : rOk r) (wn : wnOk r R fi lo ls) (hjk : j + k ≤ ls.length) (ho : o.Perm (idL k)) {i m : Nat} (hi : i < m) (hm : m ≤ k) : sPs r ls j k o i + r (36 + 7 * lg ls (j + (lg o i).toNat)) ≤ sPs r ls j k o m := by
  induction m with
  | zero => omega
  | succ m ih =>
    have b := perm_b ho (show m < k by omega)
    have hc := (wn.1 _ (lg_mem (l := ls) (i := j + (lg o m).toNat) (by omega))).1
    have hw := ok.2.2.2.2.2 _ hc.1 hc.2
    have g := gap_nn wn hjk m
    rw [sPs]
    by_cases e : i = m
    · subst e; omega
    · have := ih (by omega) (by omega)
      omega
