/-! ===== the component: the object and its arrays ===== -/
def cRel (i p : Nat) : Prop := (i = 0 ∧ (p = 30 ∨ p = 32)) ∨ (i = 1 ∧ p = 0) ∨ (i = 2 ∧ p = 1) ∨ (i = 3 ∧ p = 31) ∨ (i = 4 ∧ p = 2) ∨ (i = 5 ∧ p = 3) ∨ (9 ≤ i ∧ i < 29 ∧ p = 6 + (i - 9)) ∨ (i = 29 ∧ p = 4) ∨ (i = 30 ∧ p = 5)
theorem cOff_n {B : Nat} {ca : Nat → Int → Int} {cb : Value} {p i : Nat} {f : Int → Int} (hp : p < 40) (h : ¬ cRel i p) : cOff B (mA ca p f) cb i = cOff B ca cb i := by
  unfold cRel at h
  unfold cOff
  by_cases e0 : i = 0
  · rw [if_pos e0, if_pos e0, mA_n (by omega), mA_n (by omega)]
  · rw [if_neg e0, if_neg e0]
    by_cases e1 : i = 1
    · rw [if_pos e1, if_pos e1, mA_n (by omega)]
    · rw [if_neg e1, if_neg e1]
      by_cases e2 : i = 2
      · rw [if_pos e2, if_pos e2, mA_n (by omega)]
      · rw [if_neg e2, if_neg e2]
        by_cases e3 : i = 3
        · rw [if_pos e3, if_pos e3, mA_n (by omega)]
        · rw [if_neg e3, if_neg e3]
          by_cases e4 : i = 4
          · rw [if_pos e4, if_pos e4, mA_n (by omega)]
          · rw [if_neg e4, if_neg e4]
            by_cases e5 : i = 5
            · rw [if_pos e5, if_pos e5, mA_n (by omega)]
            · rw [if_neg e5, if_neg e5]
              by_cases e6 : i = 6
              · rw [if_pos e6, if_pos e6]
              · rw [if_neg e6, if_neg e6]
                by_cases e7 : i = 7
                · rw [if_pos e7, if_pos e7]
                · rw [if_neg e7, if_neg e7]
                  by_cases e8 : i = 8
                  · rw [if_pos e8, if_pos e8]
                  · rw [if_neg e8, if_neg e8]
                    by_cases e9 : i < 29
                    · rw [if_pos e9, if_pos e9, mA_n (by omega)]
                    · rw [if_neg e9, if_neg e9]
                      by_cases ea : i = 29
                      · rw [if_pos ea, if_pos ea, mA_n (by omega)]
                      · rw [if_neg ea, if_neg ea]
                        by_cases eb : i = 30
                        · rw [if_pos eb, if_pos eb, mA_n (by omega)]
                        · rw [if_neg eb, if_neg eb, mA_n (by omega)]
section CX
variable {h : ka_H} {B : Nat} {ca : Nat → Int → Int} {cb : Value}
theorem cH_upA {i p : Nat} {f : Int → Int} {z : ka_C} (hi : i < 31) (hp : p < 40) (hz : z = cOff B (mA ca p f) cb i) (ho : ∀ j, j ≠ i → ¬ cRel j p) : (ka_up (cH h B ca cb).1 (B + i) z, (cH h B ca cb).2) = cH h B (mA ca p f) cb := by
  refine Prod.ext ?_ rfl
  funext q
  simp only [ka_up]
  by_cases e1 : q = B + i
  · rw [if_pos e1, e1, cH_i (by omega), hz]
  · rw [if_neg e1]
    simp only [cH]
    by_cases e2 : B ≤ q ∧ q < B + 1151
    · rw [if_pos e2, if_pos e2, cOff_n hp (ho _ (by omega))]
    · rw [if_neg e2, if_neg e2]
theorem ob_at : (cH h B ca cb).1 B = some (cOff B ca cb 0) := cH_i (i := 0) (by omega)
theorem ob_isc : ka_isc (cH h B ca cb) [0] B = true := by
  unfold ka_isc
  rw [ob_at]
  rfl
theorem ob_v14 : ka_gf (cH h B ca cb) [0] B 14 = some cb := by
  unfold ka_gf
  rw [ob_at]
  rfl
theorem ob_p14 (v : Value) : ka_pf (cH h B ca cb) [0] B 14 v = some (cH h B ca v) := by
  unfold ka_pf
  rw [ob_at]
  refine Eq.trans (if_pos ⟨by decide, by simp only [List.length_cons, List.length_nil]; omega⟩) ?_
  congr 1
  refine Prod.ext ?_ rfl
  funext q
  simp only [ka_up]
  by_cases e1 : q = B
  · rw [if_pos e1, e1]
    simp only [cH]
    rw [if_pos (by omega), Nat.sub_self]
    rfl
  · rw [if_neg e1]
    simp only [cH]
    by_cases e2 : B ≤ q ∧ q < B + 1151
    · rw [if_pos e2, if_pos e2]
      congr 1
      unfold cOff
      rw [if_neg (c := q - B = 0) (by omega), if_neg (c := q - B = 0) (by omega)]
    · rw [if_neg e2, if_neg e2]
theorem ob_g0 : ka_gi (cH h B ca cb) [0] B 0 = some (iI (ca 30 0)) := by
  unfold ka_gi ka_gf
  rw [ob_at]
  rfl
theorem ob_p0 (x : Int) : ka_pf (cH h B ca cb) [0] B 0 (.int (iI x)) = some (cH h B (mA ca 30 (rU (ca 30) 0 x)) cb) := by
  unfold ka_pf
  rw [ob_at]
  refine Eq.trans (if_pos ⟨by decide, by simp only [List.length_cons, List.length_nil]; omega⟩) ?_
  congr 1
  refine cH_upA (i := 0) (by omega) (by omega) ?_ (fun j hj => by unfold cRel; omega)
  unfold cOff
  rw [if_pos rfl, mA_2, mA_n (by decide)]
  simp only [List.set_cons_zero, List.set_cons_succ, rU_s]
  repeat rw [rU_n (by decide)]
theorem ob_g1 : ka_gi (cH h B ca cb) [0] B 1 = some (iI (ca 30 1)) := by
  unfold ka_gi ka_gf
  rw [ob_at]
  rfl
theorem ob_p1 (x : Int) : ka_pf (cH h B ca cb) [0] B 1 (.int (iI x)) = some (cH h B (mA ca 30 (rU (ca 30) 1 x)) cb) := by
  unfold ka_pf
  rw [ob_at]
  refine Eq.trans (if_pos ⟨by decide, by simp only [List.length_cons, List.length_nil]; omega⟩) ?_
  congr 1
  refine cH_upA (i := 0) (by omega) (by omega) ?_ (fun j hj => by unfold cRel; omega)
  unfold cOff
  rw [if_pos rfl, mA_2, mA_n (by decide)]
  simp only [List.set_cons_zero, List.set_cons_succ, rU_s]
  repeat rw [rU_n (by decide)]
theorem ob_g2 : ka_gi (cH h B ca cb) [0] B 2 = some (iI (ca 30 2)) := by
  unfold ka_gi ka_gf
  rw [ob_at]
  rfl
theorem ob_p2 (x : Int) : ka_pf (cH h B ca cb) [0] B 2 (.int (iI x)) = some (cH h B (mA ca 30 (rU (ca 30) 2 x)) cb) := by
  unfold ka_pf
  rw [ob_at]
  refine Eq.trans (if_pos ⟨by decide, by simp only [List.length_cons, List.length_nil]; omega⟩) ?_
  congr 1
  refine cH_upA (i := 0) (by omega) (by omega) ?_ (fun j hj => by unfold cRel; omega)
  unfold cOff
  rw [if_pos rfl, mA_2, mA_n (by decide)]
  simp only [List.set_cons_zero, List.set_cons_succ, rU_s]
  repeat rw [rU_n (by decide)]
theorem ob_g9 : ka_gi (cH h B ca cb) [0] B 9 = some (iI (ca 30 9)) := by
  unfold ka_gi ka_gf
  rw [ob_at]
  rfl
theorem ob_p9 (x : Int) : ka_pf (cH h B ca cb) [0] B 9 (.int (iI x)) = some (cH h B (mA ca 30 (rU (ca 30) 9 x)) cb) := by
  unfold ka_pf
  rw [ob_at]
  refine Eq.trans (if_pos ⟨by decide, by simp only [List.length_cons, List.length_nil]; omega⟩) ?_
  congr 1
  refine cH_upA (i := 0) (by omega) (by omega) ?_ (fun j hj => by unfold cRel; omega)
  unfold cOff
  rw [if_pos rfl, mA_2, mA_n (by decide)]
  simp only [List.set_cons_zero, List.set_cons_succ, rU_s]
  repeat rw [rU_n (by decide)]
theorem ob_g11 : ka_gi (cH h B ca cb) [0] B 11 = some (iI (ca 30 11)) := by
  unfold ka_gi ka_gf
  rw [ob_at]
  rfl
theorem ob_p11 (x : Int) : ka_pf (cH h B ca cb) [0] B 11 (.int (iI x)) = some (cH h B (mA ca 30 (rU (ca 30) 11 x)) cb) := by
  unfold ka_pf
  rw [ob_at]
  refine Eq.trans (if_pos ⟨by decide, by simp only [List.length_cons, List.length_nil]; omega⟩) ?_
  congr 1
  refine cH_upA (i := 0) (by omega) (by omega) ?_ (fun j hj => by unfold cRel; omega)
  unfold cOff
  rw [if_pos rfl, mA_2, mA_n (by decide)]
  simp only [List.set_cons_zero, List.set_cons_succ, rU_s]
  repeat rw [rU_n (by decide)]
theorem ob_g16 : ka_gi (cH h B ca cb) [0] B 16 = some (iI (ca 30 16)) := by
  unfold ka_gi ka_gf
  rw [ob_at]
  rfl
theorem ob_p16 (x : Int) : ka_pf (cH h B ca cb) [0] B 16 (.int (iI x)) = some (cH h B (mA ca 30 (rU (ca 30) 16 x)) cb) := by
  unfold ka_pf
  rw [ob_at]
  refine Eq.trans (if_pos ⟨by decide, by simp only [List.length_cons, List.length_nil]; omega⟩) ?_
  congr 1
  refine cH_upA (i := 0) (by omega) (by omega) ?_ (fun j hj => by unfold cRel; omega)
  unfold cOff
  rw [if_pos rfl, mA_2, mA_n (by decide)]
  simp only [List.set_cons_zero, List.set_cons_succ, rU_s]
  repeat rw [rU_n (by decide)]
theorem ob_g17 : ka_gi (cH h B ca cb) [0] B 17 = some (iI (ca 30 17)) := by
  unfold ka_gi ka_gf
  rw [ob_at]
  rfl
theorem ob_p17 (x : Int) : ka_pf (cH h B ca cb) [0] B 17 (.int (iI x)) = some (cH h B (mA ca 30 (rU (ca 30) 17 x)) cb) := by
  unfold ka_pf
  rw [ob_at]
  refine Eq.trans (if_pos ⟨by decide, by simp only [List.length_cons, List.length_nil]; omega⟩) ?_
  congr 1
  refine cH_upA (i := 0) (by omega) (by omega) ?_ (fun j hj => by unfold cRel; omega)
  unfold cOff
  rw [if_pos rfl, mA_2, mA_n (by decide)]
  simp only [List.set_cons_zero, List.set_cons_succ, rU_s]
  repeat rw [rU_n (by decide)]
theorem ob_g18 : ka_gi (cH h B ca cb) [0] B 18 = some (iI (ca 30 18)) := by
  unfold ka_gi ka_gf
  rw [ob_at]
  rfl
theorem ob_p18 (x : Int) : ka_pf (cH h B ca cb) [0] B 18 (.int (iI x)) = some (cH h B (mA ca 30 (rU (ca 30) 18 x)) cb) := by
  unfold ka_pf
  rw [ob_at]
  refine Eq.trans (if_pos ⟨by decide, by simp only [List.length_cons, List.length_nil]; omega⟩) ?_
  congr 1
  refine cH_upA (i := 0) (by omega) (by omega) ?_ (fun j hj => by unfold cRel; omega)
  unfold cOff
  rw [if_pos rfl, mA_2, mA_n (by decide)]
  simp only [List.set_cons_zero, List.set_cons_succ, rU_s]
  repeat rw [rU_n (by decide)]
theorem ob_r3 : ka_gr (cH h B ca cb) [0] B 3 = some (B + 1) := by
  unfold ka_gr ka_gf
  rw [ob_at]
  rfl
theorem ob_r4 : ka_gr (cH h B ca cb) [0] B 4 = some (B + 2) := by
  unfold ka_gr ka_gf
  rw [ob_at]
  rfl
theorem ob_r5 : ka_gr (cH h B ca cb) [0] B 5 = some (cSl B (ca 32 0).toNat) := by
  unfold ka_gr ka_gf
  rw [ob_at]
  rfl
theorem ob_r6 : ka_gr (cH h B ca cb) [0] B 6 = some (cSl B 1) := by
  unfold ka_gr ka_gf
  rw [ob_at]
  rfl
theorem ob_r7 : ka_gr (cH h B ca cb) [0] B 7 = some (B + 3) := by
  unfold ka_gr ka_gf
  rw [ob_at]
  rfl
theorem ob_r8 : ka_gr (cH h B ca cb) [0] B 8 = some (B + 4) := by
  unfold ka_gr ka_gf
  rw [ob_at]
  rfl
theorem ob_r10 : ka_gr (cH h B ca cb) [0] B 10 = some (B + 5) := by
  unfold ka_gr ka_gf
  rw [ob_at]
  rfl
theorem ob_r12 : ka_gr (cH h B ca cb) [0] B 12 = some (B + 6) := by
  unfold ka_gr ka_gf
  rw [ob_at]
  rfl
theorem ob_r13 : ka_gr (cH h B ca cb) [0] B 13 = some (B + 7) := by
  unfold ka_gr ka_gf
  rw [ob_at]
  rfl
theorem ob_r15 : ka_gr (cH h B ca cb) [0] B 15 = some (B + 8) := by
  unfold ka_gr ka_gf
  rw [ob_at]
  rfl
theorem ob_r19 : ka_gr (cH h B ca cb) [0] B 19 = some (B + 29) := by
  unfold ka_gr ka_gf
  rw [ob_at]
  rfl
theorem ob_r20 : ka_gr (cH h B ca cb) [0] B 20 = some (B + 30) := by
  unfold ka_gr ka_gf
  rw [ob_at]
  rfl
theorem ob_p5 (s : Nat) : ka_pf (cH h B ca cb) [0] B 5 (.ref (cSl B s)) = some (cH h B (mA ca 32 (rU (ca 32) 0 s)) cb) := by
  unfold ka_pf
  rw [ob_at]
  refine Eq.trans (if_pos ⟨by decide, by simp only [List.length_cons, List.length_nil]; omega⟩) ?_
  congr 1
  refine cH_upA (i := 0) (by omega) (by omega) ?_ (fun j hj => by unfold cRel; omega)
  unfold cOff
  rw [if_pos rfl, mA_2, mA_n (by decide), rU_s, Int.toNat_natCast]
  rfl
theorem cH_ia {kd n p : Nat} {q i : Nat} (hi : i < 31) (hq : cOff B ca cb i = .inl (kd, n, .inl fun j => iI (ca p j))) {x : Int} (h0 : 0 ≤ x) (h1 : x < n) (hn : n ≤ 1000) (eq : q = B + i) : ka_ld kd (cH h B ca cb) q (iI x) = some (iI (ca p x)) := by
  subst eq
  have ek : (iI x).toNatClampNeg = x.toNat := iI_clamp ⟨by omega, by omega⟩
  have hn0 : ¬ (iI x < 0) := by rw [← iI_0, iI_lt ⟨by omega, by omega⟩ ⟨by decide, by decide⟩]; omega
  unfold ka_ld
  rw [cH_i (by omega), hq]
  dsimp only
  rw [ek, if_pos ⟨Or.inl rfl, fun z => by rcases z with z | z; exact hn0 z; omega⟩, show ((x.toNat : Nat) : Int) = x by omega]
theorem cH_is {kd n p : Nat} {q i : Nat} (hi : i < 31) (hp : p < 40) (hq : ∀ ca : Nat → Int → Int, cOff B ca cb i = .inl (kd, n, .inl fun j => iI (ca p j))) (ho : ∀ j, j ≠ i → ¬ cRel j p) {x y : Int} (h0 : 0 ≤ x) (h1 : x < n) (hn : n ≤ 1000) (eq : q = B + i) : ka_sd kd (cH h B ca cb) q (iI x) (iI y) = some (cH h B (mA ca p (rU (ca p) x y)) cb) := by
  subst eq
  have ek : (iI x).toNatClampNeg = x.toNat := iI_clamp ⟨by omega, by omega⟩
  have hn0 : ¬ (iI x < 0) := by rw [← iI_0, iI_lt ⟨by omega, by omega⟩ ⟨by decide, by decide⟩]; omega
  unfold ka_sd
  rw [cH_i (by omega), hq]
  dsimp only
  rw [ek, if_pos ⟨rfl, fun z => by rcases z with z | z; exact hn0 z; omega⟩]
  congr 1
  refine cH_upA hi hp ?_ ho
  rw [hq]
  congr 4
  funext j
  unfold upd
  rw [mA_2]
  by_cases ej : j = x.toNat
  · rw [if_pos ej]
    unfold rU
    rw [if_pos (by omega)]
  · rw [if_neg ej, rU_n (by omega)]
theorem rf_l {x : Int} (h0 : 0 ≤ x) (h1 : x < 7) : ka_ld 0 (cH h B ca cb) (B + 1) (iI x) = some (iI (ca 0 x)) := cH_ia (n := 7) (p := 0) (by omega) rfl h0 h1 (by omega) rfl
theorem rf_s {x y : Int} (h0 : 0 ≤ x) (h1 : x < 7) : ka_sd 0 (cH h B ca cb) (B + 1) (iI x) (iI y) = some (cH h B (mA ca 0 (rU (ca 0) x y)) cb) := cH_is (n := 7) (p := 0) (by omega) (by omega) (fun _ => rfl) (fun j hj => by unfold cRel; omega) h0 h1 (by omega) rfl
theorem tm_l {x : Int} (h0 : 0 ≤ x) (h1 : x < 6) : ka_ld 0 (cH h B ca cb) (B + 2) (iI x) = some (iI (ca 1 x)) := cH_ia (n := 6) (p := 1) (by omega) rfl h0 h1 (by omega) rfl
theorem tm_s {x y : Int} (h0 : 0 ≤ x) (h1 : x < 6) : ka_sd 0 (cH h B ca cb) (B + 2) (iI x) (iI y) = some (cH h B (mA ca 1 (rU (ca 1) x y)) cb) := cH_is (n := 6) (p := 1) (by omega) (by omega) (fun _ => rfl) (fun j hj => by unfold cRel; omega) h0 h1 (by omega) rfl
theorem uw_l {x : Int} (h0 : 0 ≤ x) (h1 : x < 12) : ka_ld 0 (cH h B ca cb) (B + 4) (iI x) = some (iI (ca 2 x)) := cH_ia (n := 12) (p := 2) (by omega) rfl h0 h1 (by omega) rfl
theorem uw_s {x y : Int} (h0 : 0 ≤ x) (h1 : x < 12) : ka_sd 0 (cH h B ca cb) (B + 4) (iI x) (iI y) = some (cH h B (mA ca 2 (rU (ca 2) x y)) cb) := cH_is (n := 12) (p := 2) (by omega) (by omega) (fun _ => rfl) (fun j hj => by unfold cRel; omega) h0 h1 (by omega) rfl
theorem tp_l {x : Int} (h0 : 0 ≤ x) (h1 : x < 100) : ka_ld 1 (cH h B ca cb) (B + 5) (iI x) = some (iI (ca 3 x)) := cH_ia (n := 100) (p := 3) (by omega) rfl h0 h1 (by omega) rfl
theorem tp_s {x y : Int} (h0 : 0 ≤ x) (h1 : x < 100) : ka_sd 1 (cH h B ca cb) (B + 5) (iI x) (iI y) = some (cH h B (mA ca 3 (rU (ca 3) x y)) cb) := cH_is (n := 100) (p := 3) (by omega) (by omega) (fun _ => rfl) (fun j hj => by unfold cRel; omega) h0 h1 (by omega) rfl
theorem br_l {x : Int} (h0 : 0 ≤ x) (h1 : x < 20) : ka_ld 0 (cH h B ca cb) (B + 29) (iI x) = some (iI (ca 4 x)) := cH_ia (n := 20) (p := 4) (by omega) rfl h0 h1 (by omega) rfl
theorem br_s {x y : Int} (h0 : 0 ≤ x) (h1 : x < 20) : ka_sd 0 (cH h B ca cb) (B + 29) (iI x) (iI y) = some (cH h B (mA ca 4 (rU (ca 4) x y)) cb) := cH_is (n := 20) (p := 4) (by omega) (by omega) (fun _ => rfl) (fun j hj => by unfold cRel; omega) h0 h1 (by omega) rfl
theorem bs_l {x : Int} (h0 : 0 ≤ x) (h1 : x < 20) : ka_ld 0 (cH h B ca cb) (B + 30) (iI x) = some (iI (ca 5 x)) := cH_ia (n := 20) (p := 5) (by omega) rfl h0 h1 (by omega) rfl
theorem bs_s {x y : Int} (h0 : 0 ≤ x) (h1 : x < 20) : ka_sd 0 (cH h B ca cb) (B + 30) (iI x) (iI y) = some (cH h B (mA ca 5 (rU (ca 5) x y)) cb) := cH_is (n := 20) (p := 5) (by omega) (by omega) (fun _ => rfl) (fun j hj => by unfold cRel; omega) h0 h1 (by omega) rfl
theorem cOff_fr {B : Nat} {cb : Value} {k : Nat} (hk : k < 20) (ca : Nat → Int → Int) : cOff B ca cb (9 + k) = .inl (0, 33, .inl fun j => iI (ca (6 + k) j)) := by
  unfold cOff
  rw [if_neg (by omega), if_neg (by omega), if_neg (by omega), if_neg (by omega), if_neg (by omega), if_neg (by omega), if_neg (by omega), if_neg (by omega), if_neg (by omega), if_pos (by omega), show 9 + k - 9 = k by omega]
theorem fr_l {k : Nat} (hk : k < 20) {x : Int} (h0 : 0 ≤ x) (h1 : x < 33) : ka_ld 0 (cH h B ca cb) (B + 9 + k) (iI x) = some (iI (ca (6 + k) x)) := cH_ia (i := 9 + k) (p := 6 + k) (by omega) (cOff_fr hk ca) h0 h1 (by omega) (by omega)
theorem fr_s {k : Nat} (hk : k < 20) {x y : Int} (h0 : 0 ≤ x) (h1 : x < 33) : ka_sd 0 (cH h B ca cb) (B + 9 + k) (iI x) (iI y) = some (cH h B (mA ca (6 + k) (rU (ca (6 + k)) x y)) cb) := cH_is (i := 9 + k) (n := 33) (p := 6 + k) (by omega) (by omega) (fun ca => cOff_fr hk ca) (fun j hj => by unfold cRel; omega) h0 h1 (by omega) (by omega)
theorem fr_a {k : Nat} (hk : k < 20) : ka_la (cH h B ca cb) (B + 8) (iI (k : Int)) = some (B + 9 + k) := by
  have ek : (iI (k : Int)).toNatClampNeg = k := by rw [iI_clamp ⟨by omega, by omega⟩, Int.toNat_natCast]
  have hn : ¬ (iI (k : Int) < 0) := by rw [← iI_0, iI_lt ⟨by omega, by omega⟩ ⟨by decide, by decide⟩]; omega
  unfold ka_la
  rw [cH_i (by omega), show cOff B ca cb 8 = .inl (8, 20, .inr fun j => if j < 20 then some (B + 9 + j) else none) from rfl]
  dsimp only
  rw [ek, if_pos ⟨by decide, fun z => by rcases z with z | z; exact hn z; omega⟩, if_pos hk]
theorem un_a {k : Nat} (hk : k < 12) : ka_la (cH h B ca cb) (B + 3) (iI (k : Int)) = some (cSl B (ca 31 (k : Int)).toNat) := by
  have ek : (iI (k : Int)).toNatClampNeg = k := by rw [iI_clamp ⟨by omega, by omega⟩, Int.toNat_natCast]
  have hn : ¬ (iI (k : Int) < 0) := by rw [← iI_0, iI_lt ⟨by omega, by omega⟩ ⟨by decide, by decide⟩]; omega
  unfold ka_la
  rw [cH_i (by omega), show cOff B ca cb 3 = .inl (3, 12, .inr fun j => if j < 12 then some (cSl B (ca 31 j).toNat) else none) from rfl]
  dsimp only
  rw [ek, if_pos ⟨by decide, fun z => by rcases z with z | z; exact hn z; omega⟩, if_pos hk]
theorem un_s {k s : Nat} (hk : k < 12) (hs : s < 14) : ka_sa (cH h B ca cb) (B + 3) (iI (k : Int)) (cSl B s) = some (cH h B (mA ca 31 (rU (ca 31) (k : Int) s)) cb) := by
  have ek : (iI (k : Int)).toNatClampNeg = k := by rw [iI_clamp ⟨by omega, by omega⟩, Int.toNat_natCast]
  have hn : ¬ (iI (k : Int) < 0) := by rw [← iI_0, iI_lt ⟨by omega, by omega⟩ ⟨by decide, by decide⟩]; omega
  unfold ka_sa
  rw [cH_i (by omega), show cOff B ca cb 3 = .inl (3, 12, .inr fun j => if j < 12 then some (cSl B (ca 31 j).toNat) else none) from rfl]
  dsimp only
  rw [ch_at hs, cKc_chip]
  dsimp only
  rw [ek, if_pos ⟨by decide, fun z => by rcases z with z | z; exact hn z; omega⟩]
  congr 1
  refine cH_upA (i := 3) (by omega) (by omega) ?_ (fun j hj => by unfold cRel; omega)
  rw [show cOff B (mA ca 31 (rU (ca 31) (k : Int) s)) cb 3 = .inl (3, 12, .inr fun j => if j < 12 then some (cSl B (mA ca 31 (rU (ca 31) (k : Int) s) 31 j).toNat) else none) from rfl]
  congr 4
  funext j
  unfold va_up
  rw [mA_2]
  by_cases ej : j = k
  · subst ej
    rw [if_pos rfl, if_pos hk, rU_s, Int.toNat_natCast]
  · rw [if_neg ej, rU_n (by omega)]
theorem aw_isc : ka_isc (cH h B ca cb) [1] (B + 6) = true := by
  unfold ka_isc
  rw [cH_i (by omega)]
  rfl
theorem as_isc : ka_isc (cH h B ca cb) [2] (B + 7) = true := by
  unfold ka_isc
  rw [cH_i (by omega)]
  rfl
theorem aw_isc2 : ka_isc (cH h B ca cb) [1, 2] (B + 6) = true := by
  unfold ka_isc
  rw [cH_i (by omega)]
  rfl
theorem as_isc2 : ka_isc (cH h B ca cb) [1, 2] (B + 7) = true := by
  unfold ka_isc
  rw [cH_i (by omega)]
  rfl
theorem aw_r0 : ka_gr (cH h B ca cb) [1, 2] (B + 6) 0 = some B := by
  unfold ka_gr ka_gf
  rw [cH_i (by omega)]
  rfl
theorem as_r0 : ka_gr (cH h B ca cb) [1, 2] (B + 7) 0 = some B := by
  unfold ka_gr ka_gf
  rw [cH_i (by omega)]
  rfl
theorem aw_r1 : ka_gr (cH h B ca cb) [1] (B + 6) 1 = some B := by
  unfold ka_gr ka_gf
  rw [cH_i (by omega)]
  rfl
theorem as_r1 : ka_gr (cH h B ca cb) [2] (B + 7) 1 = some B := by
  unfold ka_gr ka_gf
  rw [cH_i (by omega)]
  rfl
end CX
