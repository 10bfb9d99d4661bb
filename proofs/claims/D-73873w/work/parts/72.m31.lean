/-! ===== the model: runs ===== -/
/-- a loop whose measure falls -/
theorem fix_ms {β σ : Type} {B : ka_K β → ka_K β} (L : σ → ka_L) (H : σ → ka_H) (P : σ → Prop) (μ : σ → Nat) (R : Option β → Prop) (hs : ∀ K s, P s → R (B K (L s) [] (H s)) ∨ ∃ s', P s' ∧ μ s' < μ s ∧ B K (L s) [] (H s) = K (L s') [] (H s')) : ∀ n s, P s → μ s < n → R (ki_fix B n (L s) [] (H s)) := by
  intro n
  induction n with
  | zero => intro s _ h; omega
  | succ n ih =>
    intro s h1 h2
    rw [ki_fix_s]
    rcases hs (ki_fix B n) s h1 with h | ⟨s', h3, h4, h5⟩
    · exact h
    · rw [h5]
      exact ih s' h3 (by omega)
/-- runs of places with p ahead of n: those that are over, how long the last one is -/
def aR (p : Nat → Bool) : Nat → List (Nat × Nat) × Nat
  | 0 => ([], 0)
  | n + 1 => if p n = true then ((aR p n).1, (aR p n).2 + 1) else (if (aR p n).2 = 0 then (aR p n).1 else (aR p n).1 ++ [(n - (aR p n).2, (aR p n).2)], 0)
/-- a list laid into an array -/
def rList (l : List Int) (g : Int → Int) : Int → Int := fun j => if 0 ≤ j ∧ j < l.length then (l[j.toNat]?).getD 0 else g j
theorem rList_nil (g : Int → Int) : rList [] g = g := by
  funext j
  unfold rList
  rw [if_neg (by simp)]
theorem rList_app (l : List Int) (g : Int → Int) (x : Int) : rU (rList l g) l.length x = rList (l ++ [x]) g := by
  funext j
  unfold rU rList
  by_cases e : j = l.length
  · rw [if_pos e, if_pos (by simp; omega)]
    subst e
    simp
  · rw [if_neg e]
    by_cases e2 : 0 ≤ j ∧ j < l.length
    · rw [if_pos e2, if_pos (by simp; omega), List.getElem?_append_left (by omega)]
    · rw [if_neg e2, if_neg (by simp; omega)]
theorem rList_at {l : List Int} {g : Int → Int} {j : Nat} (h : j < l.length) : rList l g j = l[j] := by
  unfold rList
  rw [if_pos (by omega)]
  simp [h]
def sRunS (rows sites : Int) (r : Int → Int) (R S F : Int) : Bool := (vIn R 0 (rows - 1) && vIn S 0 (sites - 1)) && (!sBar r R S && (decide (sCel r R S (-1) true = -1) && decide (sFen r R S = F)))
/-- runs of a row for a fence: row, fence, first site, how many -/
def lRow (rows sites : Int) (r : Int → Int) (R F : Int) (s : Nat) : List (Int × Int × Int × Int) := (aR (fun s => sRunS rows sites r R s F) s).1.map (fun x => (R, F, (x.1 : Int), (x.2 : Int)))
def lRowN (rows sites : Int) (r : Int → Int) (R : Int) : Nat → List (Int × Int × Int × Int)
  | 0 => []
  | f + 1 => lRowN rows sites r R f ++ lRow rows sites r R (f - 1) (sites.toNat + 1)
def lAll (rows sites : Int) (r : Int → Int) : Nat → List (Int × Int × Int × Int)
  | 0 => []
  | R + 1 => lAll rows sites r R ++ lRowN rows sites r R ((r 1).toNat + 1)
/-- the runs in the arrays -/
def mRuns (ma : Nat → Int → Int) (l : List (Int × Int × Int × Int)) : Nat → Int → Int := mA (mA (mA (mA ma 8 (rList (l.map (·.1)) (ma 8))) 9 (rList (l.map (·.2.1)) (ma 9))) 10 (rList (l.map (·.2.2.1)) (ma 10))) 11 (rList (l.map (·.2.2.2)) (ma 11))
theorem mRuns_n {ma : Nat → Int → Int} {l : List (Int × Int × Int × Int)} {p : Nat} (h : p < 8 ∨ 11 < p) : mRuns ma l p = ma p := by
  unfold mRuns
  rw [mA_n (by omega), mA_n (by omega), mA_n (by omega), mA_n (by omega)]
theorem mRuns_8 (ma : Nat → Int → Int) (l : List (Int × Int × Int × Int)) : mRuns ma l 8 = rList (l.map (·.1)) (ma 8) := by
  unfold mRuns
  rw [mA_n (by omega), mA_n (by omega), mA_n (by omega), mA_2]
theorem mRuns_9 (ma : Nat → Int → Int) (l : List (Int × Int × Int × Int)) : mRuns ma l 9 = rList (l.map (·.2.1)) (ma 9) := by
  unfold mRuns
  rw [mA_n (by omega), mA_n (by omega), mA_2]
theorem mRuns_10 (ma : Nat → Int → Int) (l : List (Int × Int × Int × Int)) : mRuns ma l 10 = rList (l.map (·.2.2.1)) (ma 10) := by
  unfold mRuns
  rw [mA_n (by omega), mA_2]
theorem mRuns_11 (ma : Nat → Int → Int) (l : List (Int × Int × Int × Int)) : mRuns ma l 11 = rList (l.map (·.2.2.2)) (ma 11) := by
  unfold mRuns
  rw [mA_2]
theorem mRuns_nil (ma : Nat → Int → Int) : mRuns ma [] = ma := by
  unfold mRuns
  simp only [List.map_nil, rList_nil]
  rw [mA_self, mA_self, mA_self, mA_self]
theorem mRuns_app (ma : Nat → Int → Int) (l : List (Int × Int × Int × Int)) (x : Int × Int × Int × Int) : mA (mA (mA (mA (mRuns ma l) 8 (rU (rList (l.map (·.1)) (ma 8)) l.length x.1)) 9 (rU (rList (l.map (·.2.1)) (ma 9)) l.length x.2.1)) 10 (rU (rList (l.map (·.2.2.1)) (ma 10)) l.length x.2.2.1)) 11 (rU (rList (l.map (·.2.2.2)) (ma 11)) l.length x.2.2.2) = mRuns ma (l ++ [x]) := by
  have e1 := rList_app (l.map (·.1)) (ma 8) x.1
  have e2 := rList_app (l.map (·.2.1)) (ma 9) x.2.1
  have e3 := rList_app (l.map (·.2.2.1)) (ma 10) x.2.2.1
  have e4 := rList_app (l.map (·.2.2.2)) (ma 11) x.2.2.2
  rw [List.length_map] at e1 e2 e3 e4
  rw [e1, e2, e3, e4]
  funext p
  unfold mRuns
  simp only [List.map_append, List.map_cons, List.map_nil]
  by_cases p8 : p = 8
  · simp [mA, p8]
  · by_cases p9 : p = 9
    · simp [mA, p9]
    · by_cases p10 : p = 10
      · simp [mA, p10]
      · by_cases p11 : p = 11
        · simp [mA, p11]
        · simp [mA, p8, p9, p10, p11]
/-! how many runs there are -/
theorem aR_count (p : Nat → Bool) (s : Nat) : ((aR p s).1.length : Int) + (if (aR p s).2 = 0 then 0 else 1) ≤ aS (fun i => if p i = true then 1 else 0) s := by
  induction s with
  | zero => simp [aR, aS]
  | succ s ih =>
    rw [aR, aS]
    by_cases q : p s = true
    · rw [if_pos q, if_pos q]
      dsimp only
      rw [if_neg (by omega)]
      split at ih <;> omega
    · rw [if_neg q, if_neg q]
      dsimp only
      by_cases q2 : (aR p s).2 = 0
      · rw [if_pos q2] at ih ⊢
        rw [if_pos rfl]
        omega
      · rw [if_neg q2] at ih ⊢
        rw [if_pos rfl, List.length_append]
        simp only [List.length_cons, List.length_nil]
        omega
theorem aS_le {f g : Nat → Int} {n : Nat} (h : ∀ k, k < n → f k ≤ g k) : aS f n ≤ aS g n := by
  induction n with
  | zero => simp [aS]
  | succ n ih =>
    rw [aS, aS]
    have := ih (fun k hk => h k (by omega))
    have := h n (by omega)
    omega
theorem aS_add (f g : Nat → Int) (n : Nat) : aS (fun k => f k + g k) n = aS f n + aS g n := by
  induction n with
  | zero => rfl
  | succ n ih => rw [aS, aS, aS, ih]; omega
theorem aS_mono {f : Nat → Int} {s n : Nat} (hf : ∀ k, 0 ≤ f k) (h : s ≤ n) : aS f s ≤ aS f n := by
  induction n with
  | zero =>
    have : s = 0 := by omega
    subst this
    omega
  | succ n ih =>
    by_cases e : s = n + 1
    · subst e; omega
    · rw [aS]
      have := ih (by omega)
      have := hf n
      omega
theorem lRowN_count (rows sites : Int) (r : Int → Int) (R : Int) (f : Nat) (hs : 0 ≤ sites) : ((lRowN rows sites r R f).length : Int) ≤ aS (fun s => if (vIn s 0 (sites - 1) && decide (sFen r R s < f - 1)) = true then 1 else 0) (sites.toNat + 1) := by
  induction f with
  | zero =>
    rw [lRowN]
    have := aS_le (f := fun _ => 0) (g := fun s : Nat => if (vIn s 0 (sites - 1) && decide (sFen r R s < ((0 : Nat) : Int) - 1)) = true then 1 else 0) (n := sites.toNat + 1) (fun k _ => by split <;> omega)
    have e : aS (fun _ => 0) (sites.toNat + 1) = 0 := by
      generalize sites.toNat + 1 = n
      induction n with
      | zero => rfl
      | succ n ih => rw [aS, ih]; rfl
    simp only [List.length_nil]
    omega
  | succ f ih =>
    rw [lRowN, List.length_append]
    have h1 := aR_count (fun s : Nat => sRunS rows sites r R s (f - 1)) (sites.toNat + 1)
    have h2 : ((lRow rows sites r R (f - 1) (sites.toNat + 1)).length : Int) ≤ aS (fun i : Nat => if sRunS rows sites r R i (f - 1) = true then 1 else 0) (sites.toNat + 1) := by
      unfold lRow
      rw [List.length_map]
      split at h1 <;> omega
    have h3 := aS_le (f := fun s : Nat => (if (vIn s 0 (sites - 1) && decide (sFen r R s < f - 1)) = true then 1 else 0) + (if sRunS rows sites r R s (f - 1) = true then 1 else 0)) (g := fun s : Nat => if (vIn s 0 (sites - 1) && decide (sFen r R s < ((f + 1 : Nat) : Int) - 1)) = true then 1 else 0) (n := sites.toNat + 1) (fun k hk => by
      by_cases q0 : vIn k 0 (sites - 1) = true
      · by_cases q1 : sFen r R k < f - 1
        · rw [if_pos (by simp [q0, q1]), if_neg (by
            unfold sRunS
            have : ¬ sFen r R k = f - 1 := by omega
            simp [this]), if_pos (by
            have : sFen r R k < ((f + 1 : Nat) : Int) - 1 := by omega
            simp only [q0, this, decide_true, Bool.and_self])]
          omega
        · rw [if_neg (by simp [q1])]
          by_cases q2 : sRunS rows sites r R k (f - 1) = true
          · have q3 : sFen r R k = f - 1 := by
              unfold sRunS at q2
              simp only [Bool.and_eq_true, decide_eq_true_eq] at q2
              exact q2.2.2.2
            rw [if_pos q2, if_pos (by
              have : sFen r R k < ((f + 1 : Nat) : Int) - 1 := by omega
              simp only [q0, this, decide_true, Bool.and_self])]
            omega
          · rw [if_neg q2]
            split <;> omega
      · rw [if_neg (by simp [q0]), if_neg (by
          unfold sRunS
          simp [q0])]
        split <;> omega)
    rw [aS_add] at h3
    omega
theorem row_cnt (rows sites : Int) (r : Int → Int) (R : Int) (f s : Nat) (hs : 0 ≤ sites) (h : s ≤ sites.toNat + 1) : ((lRowN rows sites r R f).length : Int) + (lRow rows sites r R (f - 1) s).length ≤ sites := by
  have h0 := lRowN_count rows sites r R f hs
  have h1 := aR_count (fun s : Nat => sRunS rows sites r R s (f - 1)) s
  have h2 : ((lRow rows sites r R (f - 1) s).length : Int) ≤ aS (fun i : Nat => if sRunS rows sites r R i (f - 1) = true then 1 else 0) s := by
    unfold lRow
    rw [List.length_map]
    split at h1 <;> omega
  have h3 := aS_mono (f := fun i : Nat => if sRunS rows sites r R i (f - 1) = true then 1 else 0) (fun k => by split <;> omega) h
  have h4 := aS_le (f := fun s : Nat => (if (vIn s 0 (sites - 1) && decide (sFen r R s < f - 1)) = true then 1 else 0) + (if sRunS rows sites r R s (f - 1) = true then 1 else 0)) (g := fun s : Nat => if vIn s 0 (sites - 1) = true then 1 else 0) (n := sites.toNat + 1) (fun k hk => by
    by_cases q0 : vIn k 0 (sites - 1) = true
    · by_cases q1 : sFen r R k < f - 1
      · rw [if_pos (by simp [q0, q1]), if_neg (by
          unfold sRunS
          have : ¬ sFen r R k = f - 1 := by omega
          simp [this]), if_pos q0]
        omega
      · rw [if_neg (by simp [q1]), if_pos q0]
        split <;> omega
    · rw [if_neg (by simp [q0]), if_neg (by
        unfold sRunS
        simp [q0])]
      split <;> omega)
  rw [aS_add] at h4
  have h5 : aS (fun s : Nat => if vIn s 0 (sites - 1) = true then 1 else 0) (sites.toNat + 1) ≤ sites := by
    rw [aS, if_neg (by
      unfold vIn
      rw [decide_eq_true_eq]
      omega)]
    have := (aS_b (f := fun s : Nat => if vIn s 0 (sites - 1) = true then 1 else 0) (lo := 0) (hi := 1) (n := sites.toNat) (fun k _ => by split <;> omega)).2
    omega
  omega
theorem all_cnt (rows sites : Int) (r : Int → Int) (R : Nat) (hs : 0 ≤ sites) : ((lAll rows sites r R).length : Int) ≤ sites * R := by
  induction R with
  | zero => simp [lAll]
  | succ R ih =>
    rw [lAll, List.length_append]
    have h1 := row_cnt rows sites r R ((r 1).toNat + 1) 0 hs (by omega)
    have e : sites * ((R + 1 : Nat) : Int) = sites * R + sites := by rw [Int.natCast_succ, Int.mul_add, Int.mul_one]
    simp only [lRow, aR, List.map_nil, List.length_nil] at h1
    omega
