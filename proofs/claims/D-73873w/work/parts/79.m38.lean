/-! ===== the model: all loose cells come to their spots ===== -/
theorem aR_ok (p : Nat → Bool) (n : Nat) : ((aR p n).2 ≤ n ∧ ∀ j, n - (aR p n).2 ≤ j → j < n → p j = true) ∧ ∀ x, x ∈ (aR p n).1 → 1 ≤ x.2 ∧ x.1 + x.2 < n ∧ ∀ j, x.1 ≤ j → j < x.1 + x.2 → p j = true := by
  induction n with
  | zero => simp [aR]
  | succ n ih =>
    obtain ⟨⟨i1, i2⟩, i3⟩ := ih
    rw [aR]
    split
    · next q =>
      refine ⟨⟨by dsimp only; omega, ?_⟩, ?_⟩
      · intro j j1 j2
        dsimp only at j1
        by_cases e : j = n
        · subst e; exact q
        · exact i2 j (by omega) (by omega)
      · intro x hx
        have := i3 x hx
        exact ⟨this.1, by omega, this.2.2⟩
    · refine ⟨⟨by dsimp only; omega, fun j j1 j2 => by dsimp only at j1; omega⟩, ?_⟩
      dsimp only
      split
      · intro x hx
        have := i3 x hx
        exact ⟨this.1, by omega, this.2.2⟩
      · next q2 =>
        intro x hx
        rw [List.mem_append, List.mem_singleton] at hx
        rcases hx with hx | hx
        · have := i3 x hx
          exact ⟨this.1, by omega, this.2.2⟩
        · subst hx
          refine ⟨by dsimp only; omega, by dsimp only; omega, ?_⟩
          intro j j1 j2
          dsimp only at j1 j2
          exact i2 j j1 (by omega)
theorem lRow_ok {rows sites : Int} {r : Int → Int} {R F : Int} {x : Int × Int × Int × Int} (hs : 0 ≤ sites) (hx : x ∈ lRow rows sites r R F (sites.toNat + 1)) : x.1 = R ∧ x.2.1 = F ∧ 0 ≤ x.2.2.1 ∧ 1 ≤ x.2.2.2 ∧ x.2.2.1 + x.2.2.2 ≤ sites ∧ ∀ j, x.2.2.1 ≤ j → j < x.2.2.1 + x.2.2.2 → sRunS rows sites r R j F = true := by
  unfold lRow at hx
  rw [List.mem_map] at hx
  obtain ⟨y, h1, h2⟩ := hx
  obtain ⟨a1, a2, a3⟩ := (aR_ok _ _).2 y h1
  subst h2
  refine ⟨rfl, rfl, by dsimp only; omega, by dsimp only; omega, by dsimp only; omega, ?_⟩
  intro j j1 j2
  dsimp only at j1 j2
  have := a3 j.toNat (by omega) (by omega)
  rw [show ((j.toNat : Nat) : Int) = j by omega] at this
  exact this
theorem lRowN_ok {rows sites : Int} {r : Int → Int} {R : Int} (f : Nat) (hs : 0 ≤ sites) {x : Int × Int × Int × Int} (hx : x ∈ lRowN rows sites r R f) : x.1 = R ∧ (-1 ≤ x.2.1 ∧ x.2.1 < f - 1) ∧ 0 ≤ x.2.2.1 ∧ 1 ≤ x.2.2.2 ∧ x.2.2.1 + x.2.2.2 ≤ sites ∧ ∀ j, x.2.2.1 ≤ j → j < x.2.2.1 + x.2.2.2 → sRunS rows sites r x.1 j x.2.1 = true := by
  induction f with
  | zero => simp [lRowN] at hx
  | succ f ih =>
    rw [lRowN, List.mem_append] at hx
    rcases hx with hx | hx
    · obtain ⟨a1, a2, a3⟩ := ih hx
      exact ⟨a1, by omega, a3⟩
    · obtain ⟨a1, a2, a3, a4, a5, a6⟩ := lRow_ok hs hx
      refine ⟨a1, by omega, a3, a4, a5, ?_⟩
      rw [a1, a2]
      exact a6
theorem lAll_ok {rows sites : Int} {r : Int → Int} (n : Nat) (hs : 0 ≤ sites) {x : Int × Int × Int × Int} (hx : x ∈ lAll rows sites r n) : (0 ≤ x.1 ∧ x.1 < n) ∧ (-1 ≤ x.2.1 ∧ x.2.1 < (r 1).toNat) ∧ 0 ≤ x.2.2.1 ∧ 1 ≤ x.2.2.2 ∧ x.2.2.1 + x.2.2.2 ≤ sites ∧ ∀ j, x.2.2.1 ≤ j → j < x.2.2.1 + x.2.2.2 → sRunS rows sites r x.1 j x.2.1 = true := by
  induction n with
  | zero => simp [lAll] at hx
  | succ n ih =>
    rw [lAll, List.mem_append] at hx
    rcases hx with hx | hx
    · obtain ⟨a1, a2⟩ := ih hx
      exact ⟨by omega, a2⟩
    · obtain ⟨a1, a2, a3⟩ := lRowN_ok _ hs hx
      exact ⟨by omega, by omega, a3⟩
theorem lAll_lOk {rows sites : Int} {r : Int → Int} (ok : rOk r) (s1 : 1 ≤ rows ∧ rows ≤ 8) (s2 : 8 ≤ sites ∧ sites ≤ 32) : lOk 8 32 (lAll rows sites r rows.toNat) := by
  have g1 := ok.2.2.1
  refine ⟨?_, ?_⟩
  · have h1 := all_cnt rows sites r rows.toNat (by omega)
    have h2 : sites * (rows.toNat : Int) ≤ 32 * 8 := Int.mul_le_mul s2.2 (by omega) (by omega) (by omega)
    omega
  · intro x hx
    obtain ⟨a1, a2, a3, a4, a5, a6⟩ := lAll_ok rows.toNat (by omega) hx
    exact ⟨by omega, by omega, a3, a4, by omega⟩
/-- some cells lose their spots, one behind another -/
def rLsN (r : Int → Int) (l : List Int) : Nat → Int → Int
  | 0 => r
  | i + 1 => rGive (rLsN r l i) ((l[i]?).getD 0) (-1) (-1)
theorem rLsN_ok {r : Int → Int} {l : List Int} (hB : rB r) (hl : ∀ c, c ∈ l → 0 ≤ c ∧ c < 20) (i : Nat) (hi : i ≤ l.length) : rB (rLsN r l i) ∧ sameX r (rLsN r l i) := by
  induction i with
  | zero => exact ⟨hB, sameX_r r⟩
  | succ i ih =>
    obtain ⟨i1, i2⟩ := ih (by omega)
    have e : (l[i]?).getD 0 = l[i] := by simp [show i < l.length by omega]
    have hc := hl l[i] (List.getElem_mem (by omega))
    rw [rLsN, e]
    exact ⟨rB_rU (rB_rU i1 (by omega)) (by omega), sameX_t i2 (sameX_give hc.1 hc.2)⟩
/-- cells come into runs, one behind another -/
def sAsg (tall : Int) (b : Int → Int) (L : List (Int × Int × Int × Int)) (ql : List Int) : Nat → Option (Int → List Int)
  | 0 => some (fun _ => [])
  | i + 1 => match sAsg tall b L ql i with
    | none => none
    | some C => if (sRF tall b L C ((ql[i]?).getD 0) L.length).1 = -1 then none else some (fun k => if k = (sRF tall b L C ((ql[i]?).getD 0) L.length).1 then C k ++ [(ql[i]?).getD 0] else C k)
/-- all runs placed -/
def rPlA (b : Int → Int) (L : List (Int × Int × Int × Int)) (C : Int → List Int) : Nat → Int → Int
  | 0 => b
  | k + 1 => match L[k]? with
    | none => rPlA b L C k
    | some x => rPl b x.2.2.1 x.2.2.2 x.1 (C k) 0 (rPlA b L C k)
theorem sRF_fit {tall : Int} {r : Int → Int} {L : List (Int × Int × Int × Int)} {C : Int → List Int} {c : Int} (k : Nat) (h : (sRF tall r L C c k).1 ≠ -1) : ∃ (j : Nat) (x : Int × Int × Int × Int), (sRF tall r L C c k).1 = j ∧ j < k ∧ L[j]? = some x ∧ x.2.1 = r (36 + 7 * c + 1) ∧ sW r (C j ++ [c]) ≤ x.2.2.2 := by
  induction k with
  | zero => simp [sRF] at h
  | succ k ih =>
    rw [sRF] at h ⊢
    cases e : L[k]? with
    | none =>
      rw [e] at h
      dsimp only at h ⊢
      obtain ⟨j, x, a1, a2, a3⟩ := ih h
      exact ⟨j, x, a1, by omega, a3⟩
    | some x =>
      rw [e] at h
      dsimp only at h ⊢
      split at h
      · next q =>
        rw [if_pos q]
        split at h
        · next q2 =>
          rw [if_pos q2]
          obtain ⟨j, x, a1, a2, a3⟩ := ih h
          exact ⟨j, x, a1, by omega, a3⟩
        · next q2 =>
          rw [if_neg q2]
          exact ⟨k, x, rfl, by omega, e, q.1, q.2⟩
      · next q =>
        rw [if_neg q]
        obtain ⟨j, x, a1, a2, a3⟩ := ih h
        exact ⟨j, x, a1, by omega, a3⟩
theorem sAsg_ok {tall : Int} {b : Int → Int} {L : List (Int × Int × Int × Int)} {ql : List Int} (hL : lOk 8 32 L) (i : Nat) (hi : i ≤ ql.length) {C : Int → List Int} (h : sAsg tall b L ql i = some C) : (∀ k c, c ∈ C k → c ∈ ql) ∧ ∀ (k : Nat) (x : Int × Int × Int × Int), L[k]? = some x → sW b (C k) ≤ x.2.2.2 := by
  induction i generalizing C with
  | zero =>
    simp only [sAsg, Option.some.injEq] at h
    subst h
    refine ⟨by simp, ?_⟩
    intro k x hx
    have := hL.2 x (List.mem_of_getElem? hx)
    rw [sW_nil]
    omega
  | succ i ih =>
    rw [sAsg] at h
    cases e : sAsg tall b L ql i with
    | none => rw [e] at h; simp at h
    | some C0 =>
      rw [e] at h
      dsimp only at h
      obtain ⟨i1, i2⟩ := ih (by omega) e
      split at h
      · simp at h
      · next q =>
        simp only [Option.some.injEq] at h
        have eq : (ql[i]?).getD 0 = ql[i] := by simp [show i < ql.length by omega]
        obtain ⟨j, x, a1, a2, a3, a4, a5⟩ := sRF_fit L.length q
        subst h
        refine ⟨?_, ?_⟩
        · intro k c hc
          dsimp only at hc
          split at hc
          · rw [List.mem_append, List.mem_singleton] at hc
            rcases hc with hc | hc
            · exact i1 k c hc
            · rw [hc, eq]
              exact List.getElem_mem _
          · exact i1 k c hc
        · intro k y hy
          dsimp only
          split
          · next q2 =>
            have : k = j := by omega
            subst this
            rw [hy] at a3
            cases a3
            exact a5
          · exact i2 k y hy
theorem lSome_congr {Q G G' : Int → Int} {k : Int} (n : Nat) (h : ∀ i : Nat, i < n → G' (Q i) = G (Q i)) : lSome Q G' k n = lSome Q G k n := by
  induction n with
  | zero => rfl
  | succ n ih => rw [lSome, lSome, ih (fun i hi => h i (by omega)), h n (by omega)]
theorem lQ_nodup (r : Int → Int) (n : Nat) : (lQ r n).Nodup := by
  induction n with
  | zero => simp [lQ]
  | succ n ih =>
    rw [lQ]
    split
    · exact ih
    · rw [(List.perm_insertIdx _ _ (sIns_le _ _ _ _)).nodup_iff, List.nodup_cons]
      refine ⟨?_, ih⟩
      intro hm
      have := lQ_mem r n _ hm
      omega
theorem rPlA_ok {b : Int → Int} {L : List (Int × Int × Int × Int)} {C : Int → List Int} (ok : rOk b) (hL : lOk 8 32 L) (hC : ∀ k c, c ∈ C k → 0 ≤ c ∧ c < b 2) (hw : ∀ (k : Nat) (x : Int × Int × Int × Int), L[k]? = some x → sW b (C k) ≤ x.2.2.2) (k : Nat) : rB (rPlA b L C k) ∧ sameX b (rPlA b L C k) := by
  induction k with
  | zero => exact ⟨ok.1, sameX_r b⟩
  | succ k ih =>
    rw [rPlA]
    cases e : L[k]? with
    | none => exact ih
    | some x =>
      dsimp only
      have hx := hL.2 x (List.mem_of_getElem? e)
      have := rPl_ok (fi := x.2.2.1) (W := x.2.2.2) (R := x.1) ok (hC k) (by omega) (by omega) (by omega) 0 (rPlA b L C k) (by omega) (by have := hw k x e; omega) ih.1
      exact ⟨this.1, sameX_t ih.2 this.2⟩
theorem rPl_x {r r' : Int → Int} (hs : sameX r r') {fi W R : Int} {l : List Int} (hl : ∀ c, c ∈ l → 0 ≤ c ∧ c < 20) (s : Int) (q : Int → Int) : rPl r' fi W R l s q = rPl r fi W R l s q := by
  induction l generalizing s q with
  | nil => rfl
  | cons c t ih =>
    have hc := hl c (by simp)
    have ht : ∀ d, d ∈ t → 0 ≤ d ∧ d < 20 := fun d hd => hl d (by simp [hd])
    have e1 : sPlc r' fi W c t s = sPlc r fi W c t s := by
      unfold sPlc
      rw [hs (36 + 7 * c) (by omega), sDP_x hs fi W hl, sDP_x hs fi W ht]
      congr 1
      funext z
      exact sMvA_x hs hc.1 hc.2 _
    rw [rPl, rPl, e1, hs (36 + 7 * c) (by omega), ih ht]
