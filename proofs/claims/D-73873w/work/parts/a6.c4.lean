/-! ===== the component: chips taken over ===== -/
def gB (g : Int → Int) : Prop := ∀ j, -1000 ≤ g j ∧ g j ≤ 1000
theorem gB_u {g : Int → Int} {i x : Int} (b : gB g) (hx : -1000 ≤ x ∧ x ≤ 1000) : gB (rU g i x) := by
  intro j
  unfold rU
  split
  · exact hx
  · exact b j
theorem gB_give {g : Int → Int} {c R S : Int} (b : gB g) (hR : -1000 ≤ R ∧ R ≤ 1000) (hS : -1000 ≤ S ∧ S ≤ 1000) : gB (rGive g c R S) := gB_u (gB_u b hR) hS
theorem fxOk_x {r r' : Int → Int} (x : sameX r r') (g : r 2 ≤ 20) (f : fxOk r) : fxOk r' := by
  intro c c0 c1
  rw [x 2 (by omega)] at c1
  rw [x _ (by omega)]
  exact f c c0 c1
theorem fdOk_x {r r' : Int → Int} (x : sameX r r') (g : r 1 ≤ 3) (f : fdOk r) : fdOk r' := by
  intro R S a b ha hb h1 h2
  rw [x 1 (by omega)] at ha hb
  have e : ∀ c : Nat, (c : Int) < r 1 → sFin r' R S c = sFin r R S c := by
    intro c hc
    unfold sFin
    rw [x _ (by omega), x _ (by omega), x _ (by omega), x _ (by omega)]
  rw [e a ha] at h1
  rw [e b hb] at h2
  exact f R S a b ha hb h1 h2
section C4
variable {N : Nat} {h : ka_H} {B : Nat} {ca : Nat → Int → Int} {cb : Value} {r : Int → Int} {s t : Nat}
theorem rLose_x {rows sites : Int} {r : Int → Int} (ok : rOk r) (n : Nat) (hn : (n : Int) ≤ r 2) : sameX r (rLose rows sites r n) := by
  have g2 := ok.2.2.2.1
  induction n with
  | zero => exact sameX_r r
  | succ n ih =>
    rw [rLose]
    split
    · exact sameX_t (ih (by omega)) (sameX_give (by omega) (by omega))
    · exact ih (by omega)
theorem d_losesUnlawful (hN : 5000 ≤ N) (hs : s < 14) (lv : LV r (ca (40 + s))) (ok : rOk r) (fx : fxOk r) (fd : fdOk r) (hb : gB (ca (40 + s))) (z0 : 1 ≤ ca 30 0 ∧ ca 30 0 ≤ 8) (z1 : 8 ≤ ca 30 1 ∧ ca 30 1 ≤ 32) :
    ∃ g, LV (rLose (ca 30 0) (ca 30 1) r (r 2).toNat) g ∧ gB g ∧ fm_X5_losesUnlawful N [.ref (cSl B s)] (cH h B ca cb) = some (cH h B (mA ca (40 + s) g) cb) := by
  have g2 := ok.2.2.2.1
  have g1 := ok.2.2.1
  have g3 := ok.2.2.2.2.1
  rw [en_X5_losesUnlawful, eq_X5_losesUnlawful_0]
  have key := fix_ms (B := cm_X5_losesUnlawful_2 N) (fun x : Nat × (Int → Int) => [some (.ref (cSl B s)), some (.int (iI x.1))]) (fun x => cH h B (mA ca (40 + s) x.2) cb) (fun x => x.1 ≤ (r 2).toNat ∧ LV (rLose (ca 30 0) (ca 30 1) r x.1) x.2 ∧ gB x.2) (fun x => (r 2).toNat - x.1) (fun z => ∃ g, LV (rLose (ca 30 0) (ca 30 1) r (r 2).toNat) g ∧ gB g ∧ z = some (cH h B (mA ca (40 + s) g) cb)) ?_ N (0, ca (40 + s)) ⟨by dsimp only; omega, lv, hb⟩ (by dsimp only; omega)
  · simp only [mA_self, Int.natCast_zero] at key
    exact key
  · rintro K ⟨i, g⟩ ⟨p1, p2, p3⟩
    dsimp only at p1 p2 p3 ⊢
    have sx := rLose_x (rows := ca 30 0) (sites := ca 30 1) ok i (by omega)
    have okq := (rLose_ok (rows := ca 30 0) (sites := ca 30 1) ok i).1
    have q2 : rLose (ca 30 0) (ca 30 1) r i 2 = r 2 := sx 2 (by omega)
    have lvq : LV (rLose (ca 30 0) (ca 30 1) r i) (mA ca (40 + s) g (40 + s)) := by rw [mA_2]; exact p2
    have n30 : mA ca (40 + s) g 30 = ca 30 := mA_n (by omega)
    by_cases e : i = (r 2).toNat
    · left
      subst e
      refine ⟨g, p2, p3, ?_⟩
      rw [eq_X5_losesUnlawful_2, ch_g4 hs, Option.bind_some, l4 lvq 2 (by omega) (by omega), q2, if_pos ((iI_le ⟨by omega, by omega⟩ ⟨by omega, by omega⟩).mpr (by omega))]
    · right
      have fxq := fxOk_x sx g2.2 fx
      have fdq := fdOk_x sx g1.2 fd
      generalize hq : rLose (ca 30 0) (ca 30 1) r i = q at okq q2 lvq fxq fdq p2
      have b5 := okq.1 (36 + 7 * i + 5)
      have b6 := okq.1 (36 + 7 * i + 6)
      have cm := d_isMoved (N := N) (h := h) (B := B) (ca := mA ca (40 + s) g) (cb := cb) (k := i) hs lvq okq fxq (by omega)
      have cl := d_isLawful (N := N) (h := h) (B := B) (ca := mA ca (40 + s) g) (cb := cb) (c := i) (R := q (36 + 7 * i + 5)) (S := q (36 + 7 * i + 6)) (ask := true) hN hs lvq okq fxq fdq (fun k => by rw [mA_2]; exact p3 _) (by rw [n30]; exact z0) (by rw [n30]; exact z1) (by omega) (by omega) (by omega)
      rw [n30, Bool.not_true, show (if true = true then iI 1 else iI 0) = iI 1 from rfl] at cl
      have ei : ((i + 1 : Nat) : Int) = (i : Int) + 1 := by omega
      have pre : ∀ X, cm_X5_losesUnlawful_2 N K [some (.ref (cSl B s)), some (.int (iI i))] [] (cH h B (mA ca (40 + s) g) cb) = X ↔ (if (if (!sFix q i && sHas q i) = true then iI 1 else iI 0) = iI 0 then cm_X5_losesUnlawful_63 N K [some (.ref (cSl B s)), some (.int (iI i))] [] (cH h B (mA ca (40 + s) g) cb) else (if ¬ (if sLaw (ca 30 0) (ca 30 1) q i (q (36 + 7 * i + 5)) (q (36 + 7 * i + 6)) false = true then iI 1 else iI 0) = iI 0 then cm_X5_losesUnlawful_63 N K [some (.ref (cSl B s)), some (.int (iI i))] [] (cH h B (mA ca (40 + s) g) cb) else cm_X5_losesUnlawful_63 N K [some (.ref (cSl B s)), some (.int (iI i))] [] (cH h B (mA ca (40 + s) (rGive g i (-1) (-1))) cb))) = X := by
        intro X
        rw [eq_X5_losesUnlawful_2, ch_g4 hs, Option.bind_some, l4 lvq 2 (by omega) (by omega), q2, if_neg (fun z => by have := (iI_le ⟨by omega, by omega⟩ ⟨by omega, by omega⟩).mp z; omega), ch_r0 hs, Option.bind_some, ch_cell hs (by omega), Option.bind_some, if_pos (ce_isc hs (by omega)), cm, Option.bind_some]
        dsimp only
        rw [ch_r0 hs, Option.bind_some, ch_cell hs (by omega), Option.bind_some, Option.bind_some, ch_cell hs (by omega), Option.bind_some, ce_g5 hs (by omega), Option.bind_some, lc lvq (by omega) 5 (by omega) (by omega), Option.bind_some, ch_cell hs (by omega), Option.bind_some, ce_g6 hs (by omega), Option.bind_some, lc lvq (by omega) 6 (by omega) (by omega), if_pos (ch_isc hs), cl, Option.bind_some]
        dsimp only
        rw [ch_r0 hs, Option.bind_some, ch_cell hs (by omega), Option.bind_some, if_pos (ce_isc hs (by omega)), d_leaves hs (by omega), Option.bind_some, mA_2, mA_mA]
      simp only [eq_X5_losesUnlawful_63, iI_add] at pre
      by_cases q3 : ((!sFix q i && sHas q i) && !sLaw (ca 30 0) (ca 30 1) q i (q (36 + 7 * i + 5)) (q (36 + 7 * i + 6)) false) = true
      · refine ⟨(i + 1, rGive g i (-1) (-1)), ⟨by dsimp only; omega, ?_, gB_give p3 (by omega) (by omega)⟩, by dsimp only; omega, ?_⟩
        · dsimp only
          rw [rLose, hq, if_pos q3]
          exact LV_give p2 (by omega) (by omega) okq.2.2.2.2.1.1
        · rw [pre, ei]
          rw [Bool.and_eq_true] at q3
          have q4 : sLaw (ca 30 0) (ca 30 1) q i (q (36 + 7 * i + 5)) (q (36 + 7 * i + 6)) false = false := by simpa using q3.2
          rw [q3.1, q4, if_neg tb1, if_neg (fun z => z rfl)]
      · refine ⟨(i + 1, g), ⟨by dsimp only; omega, ?_, p3⟩, by dsimp only; omega, ?_⟩
        · dsimp only
          rw [rLose, hq, if_neg q3]
          exact p2
        · rw [pre, ei]
          by_cases q5 : (!sFix q i && sHas q i) = true
          · have q4 : sLaw (ca 30 0) (ca 30 1) q i (q (36 + 7 * i + 5)) (q (36 + 7 * i + 6)) false = true := by
              rw [q5] at q3
              simpa using q3
            rw [q5, q4, if_neg tb1, if_pos tb1]
          · have q5' : (!sFix q i && sHas q i) = false := by simpa using q5
            rw [q5', if_pos (by rfl)]
/-- one chip's cell is laid over another's -/
def gTk (g g' : Int → Int) (k : Int) : Int → Int := rU (rU (rU (rU (rU (rU (rU g (36 + 7 * k) (g' (36 + 7 * k))) (36 + 7 * k + 1) (g' (36 + 7 * k + 1))) (36 + 7 * k + 2) (g' (36 + 7 * k + 2))) (36 + 7 * k + 3) (g' (36 + 7 * k + 3))) (36 + 7 * k + 4) (g' (36 + 7 * k + 4))) (36 + 7 * k + 5) (g' (36 + 7 * k + 5))) (36 + 7 * k + 6) (g' (36 + 7 * k + 6))
theorem gTk_in {g g' : Int → Int} {k j : Int} (h0 : 0 ≤ j) (h1 : j < 7) : gTk g g' k (36 + 7 * k + j) = g' (36 + 7 * k + j) := by
  have e : j = 0 ∨ j = 1 ∨ j = 2 ∨ j = 3 ∨ j = 4 ∨ j = 5 ∨ j = 6 := by omega
  unfold gTk
  rcases e with e | e | e | e | e | e | e <;> subst e
  · rw [Int.add_zero, rU_n (by omega), rU_n (by omega), rU_n (by omega), rU_n (by omega), rU_n (by omega), rU_n (by omega), rU_s]
  · rw [rU_n (by omega), rU_n (by omega), rU_n (by omega), rU_n (by omega), rU_n (by omega), rU_s]
  · rw [rU_n (by omega), rU_n (by omega), rU_n (by omega), rU_n (by omega), rU_s]
  · rw [rU_n (by omega), rU_n (by omega), rU_n (by omega), rU_s]
  · rw [rU_n (by omega), rU_n (by omega), rU_s]
  · rw [rU_n (by omega), rU_s]
  · rw [rU_s]
theorem gTk_out {g g' : Int → Int} {k j : Int} (h : j < 36 + 7 * k ∨ 36 + 7 * k + 7 ≤ j) : gTk g g' k j = g j := by
  unfold gTk
  rw [rU_n (by omega), rU_n (by omega), rU_n (by omega), rU_n (by omega), rU_n (by omega), rU_n (by omega), rU_n (by omega)]
theorem gTk_B {g g' : Int → Int} {k : Int} (h1 : gB g) (h2 : gB g') : gB (gTk g g' k) := gB_u (gB_u (gB_u (gB_u (gB_u (gB_u (gB_u h1 (h2 _)) (h2 _)) (h2 _)) (h2 _)) (h2 _)) (h2 _)) (h2 _)
theorem d_ceTakes {k : Nat} (hs : s < 14) (ht : t < 14) (st : s ≠ t) (hk : k < 20) (hf : ca (40 + t) (36 + 7 * (k : Int) + 2) = 0 ∨ ca (40 + t) (36 + 7 * (k : Int) + 2) = 1) : fm_X6_takes N [.ref (cSl B s + 5 + k), .ref (cSl B t + 5 + k)] (cH h B ca cb) = some (cH h B (mA ca (40 + s) (gTk (ca (40 + s)) (ca (40 + t)) k)) cb) := by
  have n : ∀ f, mA ca (40 + s) f (40 + t) = ca (40 + t) := fun f => mA_n (by omega)
  rw [en_X6_takes, eq_X6_takes_0, ce_g1 ht hk, Option.bind_some, ce_p1 hs hk, Option.bind_some, ce_g2 ht hk, Option.bind_some, n, ce_p2 hs hk, Option.bind_some, mA_2, mA_mA, ce_g7 ht hk, Option.bind_some, n]
  rw [if_pos (by rcases hf with e | e <;> rw [e]; exact Or.inl rfl; exact Or.inr rfl), ce_p7 hs hk, Option.bind_some, mA_2, mA_mA, ce_g3 ht hk, Option.bind_some, n, ce_p3 hs hk, Option.bind_some, mA_2, mA_mA, ce_g4 ht hk, Option.bind_some, n, ce_p4 hs hk, Option.bind_some, mA_2, mA_mA, ce_g5 ht hk, Option.bind_some, n, ce_p5 hs hk, Option.bind_some, mA_2, mA_mA, ce_g6 ht hk, Option.bind_some, n, ce_p6 hs hk, Option.bind_some, mA_2, mA_mA]
  rfl
end C4
