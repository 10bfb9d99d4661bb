/-! ===== the component: nets, rects and chips taken over ===== -/
def oNet (H : ka_H) (q : Nat) (wt pn : Int) (f g : Nat → Int) : Prop := ka_isc H [8] q = true ∧ ka_gi H [8] q 0 = some (iI wt) ∧ ka_gi H [8] q 1 = some (iI pn) ∧ ∃ a b, ka_gr H [8] q 2 = some a ∧ ka_gr H [8] q 3 = some b ∧ (∀ k : Nat, k < 6 → ka_ld 0 H a (iI (k : Int)) = some (iI (f k))) ∧ ∀ k : Nat, k < 6 → ka_ld 0 H b (iI (k : Int)) = some (iI (g k))
/-- the regions of a row agree -/
def L0 (r g : Int → Int) : Prop := ∀ j, 0 ≤ j → j < 4 → g j = r j
def Lb (r g : Int → Int) (n : Int) : Prop := ∀ k j : Int, 0 ≤ k → k < n → 0 ≤ j → j < 5 → g (4 + 5 * k + j) = r (4 + 5 * k + j)
def Lf (r g : Int → Int) (n : Int) : Prop := ∀ k j : Int, 0 ≤ k → k < n → 0 ≤ j → j < 4 → g (24 + 4 * k + j) = r (24 + 4 * k + j)
def Lc (r g : Int → Int) (n : Int) : Prop := ∀ k j : Int, 0 ≤ k → k < n → 0 ≤ j → j < 7 → g (36 + 7 * k + j) = r (36 + 7 * k + j)
def Ln (r g : Int → Int) (n : Int) : Prop := ∀ k j : Int, 0 ≤ k → k < n → 0 ≤ j → j < 2 + 2 * r (176 + 14 * k + 1) → g (176 + 14 * k + j) = r (176 + 14 * k + j)
theorem LV_mk {r g : Int → Int} (a : L0 r g) (b : Lb r g (r 0)) (c : Lf r g (r 1)) (d : Lc r g (r 2)) (e : Ln r g (r 3)) : LV r g := ⟨a, b, c, d, e⟩
section C5
variable {N : Nat} {h : ka_H} {B : Nat} {ca : Nat → Int → Int} {cb : Value} {r : Int → Int} {s t : Nat}
theorem ne_o {n : Nat} (hs : s < 14) (hn : n < 16) : oNet (cH h B ca cb) (cSl B s + 25 + 3 * n) (ca (40 + s) (176 + 14 * (n : Int))) (ca (40 + s) (176 + 14 * (n : Int) + 1)) (fun m => ca (40 + s) (176 + 14 * (n : Int) + 2 + 2 * (m : Int))) (fun m => ca (40 + s) (176 + 14 * (n : Int) + 2 + 2 * (m : Int) + 1)) :=
  ⟨ne_isc hs hn, ne_g0 hs hn, ne_g1 hs hn, _, _, ne_r2 hs hn, ne_r3 hs hn, fun k hk => wo_l hs hn hk, fun k hk => we_l hs hn hk⟩
theorem d_isPad {H : ka_H} {q : Nat} {wt pn : Int} {f g : Nat → Int} {k : Nat} (o : oNet H q wt pn f g) (hk : k < 6) (hf : -1000 ≤ f k ∧ f k ≤ 1000) : fm_X7_isPad N [.ref q, .int (iI (k : Int))] H = some (decide (200 ≤ f k), H) := by
  obtain ⟨o1, o2, o3, a, b, o4, o5, o6, o7⟩ := o
  rw [en_X7_isPad, eq_X7_isPad_0, o4, Option.bind_some, o6 k hk, Option.bind_some, eq_X7_isPad_17, eq_X7_isPad_17, if_pos rfl, if_neg (c := iI 1 = iI 0) (by decide), if_pos rfl]
  by_cases q : f k < 200
  · rw [if_pos ((iI_lt ⟨by omega, by omega⟩ ⟨by omega, by omega⟩).mpr q), decide_eq_false (by omega)]
  · rw [if_neg (fun z => q ((iI_lt ⟨by omega, by omega⟩ ⟨by omega, by omega⟩).mp z)), decide_eq_true (by omega)]
theorem d_pinOf {H : ka_H} {q : Nat} {wt pn : Int} {f g : Nat → Int} {c : Int} (hN : 5000 ≤ N) (o : oNet H q wt pn f g) (hp : 0 ≤ pn ∧ pn ≤ 6) (hf : ∀ k : Nat, (k : Int) < pn → -1000 ≤ f k ∧ f k ≤ 1000) (hc : -1000 ≤ c ∧ c ≤ 1000) (un : ∀ j k : Nat, (j : Int) < pn → (k : Int) < pn → f j = c → f k = c → j = k) : fm_X7_pinOf N [.ref q, .int (iI c)] H = some (iI (aL (fun k => decide (f k = c)) pn.toNat), H) := by
  obtain ⟨o1, o2, o3, a, b, o4, o5, o6, o7⟩ := o
  rw [en_X7_pinOf, eq_X7_pinOf_0]
  have key := fix_ms (B := cm_X7_pinOf_2 N) (fun i : Nat => [some (.ref q), some (.int (iI c)), some (.int (iI i))]) (fun _ => H) (fun i => i ≤ pn.toNat ∧ ∀ j, j < i → decide (f j = c) = false) (fun i => pn.toNat - i) (fun z => z = some (iI (aL (fun k => decide (f k = c)) pn.toNat), H)) ?_ N 0 ⟨by omega, fun j hj => by omega⟩ (by omega)
  · exact key
  · rintro K i ⟨p1, p2⟩
    by_cases e : i = pn.toNat
    · left
      have z : aL (fun k => decide (f k = c)) pn.toNat = -1 := aF_none (by rw [← e]; exact p2)
      rw [eq_X7_pinOf_2, o3, Option.bind_some, if_pos ((iI_le ⟨by omega, by omega⟩ ⟨by omega, by omega⟩).mpr (by omega)), z]
    · have b := hf i (by omega)
      rw [eq_X7_pinOf_2, o3, Option.bind_some, if_neg (fun z => by have := (iI_le ⟨by omega, by omega⟩ ⟨by omega, by omega⟩).mp z; omega), o4, Option.bind_some, o6 i (by omega), Option.bind_some]
      by_cases q : f i = c
      · left
        have z : aL (fun k => decide (f k = c)) pn.toNat = i := aL_uniq (by omega) (by simpa using q) (fun j hj hp => un j i (by omega) (by omega) (by simpa using hp) q)
        rw [if_neg (fun z => z (by rw [q])), z]
      · right
        refine ⟨i + 1, ⟨by omega, fun j hj => ?_⟩, by omega, ?_⟩
        · by_cases ej : j = i
          · subst ej; exact decide_eq_false q
          · exact p2 j (by omega)
        · rw [if_pos (by rw [iI_eq ⟨by omega, by omega⟩ ⟨by omega, by omega⟩]; exact q), iI_add]
          rfl
theorem d_neTakes {n : Nat} {q : Nat} {wt pn : Int} {f g : Nat → Int} (hN : 5000 ≤ N) (hs : s < 14) (hn : n < 16) (hb : gB (ca (40 + s))) (hw : -1000 ≤ wt ∧ wt ≤ 1000) (hp : 0 ≤ pn ∧ pn ≤ 6) (hf : ∀ k : Nat, (k : Int) < pn → (-1000 ≤ f k ∧ f k ≤ 1000) ∧ -1000 ≤ g k ∧ g k ≤ 1000)
    (src : ∀ g', (∀ j, (j < 176 + 14 * (n : Int) ∨ 176 + 14 * (n : Int) + 14 ≤ j) → g' j = ca (40 + s) j) → oNet (cH h B (mA ca (40 + s) g') cb) q wt pn f g) :
    ∃ g', (∀ j, (j < 176 + 14 * (n : Int) ∨ 176 + 14 * (n : Int) + 14 ≤ j) → g' j = ca (40 + s) j) ∧ g' (176 + 14 * (n : Int)) = wt ∧ g' (176 + 14 * (n : Int) + 1) = pn ∧ (∀ k : Nat, (k : Int) < pn → g' (176 + 14 * (n : Int) + 2 + 2 * (k : Int)) = f k ∧ g' (176 + 14 * (n : Int) + 2 + 2 * (k : Int) + 1) = g k) ∧ gB g' ∧ fm_X7_takes N [.ref (cSl B s + 25 + 3 * n), .ref q] (cH h B ca cb) = some (cH h B (mA ca (40 + s) g') cb) := by
  obtain ⟨o1, o2, o3, a, b, o4, o5, o6, o7⟩ := src (ca (40 + s)) (fun _ _ => rfl)
  rw [mA_self] at o1 o2 o3 o4 o5 o6 o7
  rw [en_X7_takes, eq_X7_takes_0, o2, Option.bind_some, if_pos (ne_isc hs hn), en_X7_begins, eq_X7_begins_0, ne_p0 hs hn, Option.bind_some, ne_p1 hs hn, Option.bind_some, mA_2, mA_mA, Option.bind_some]
  have key := fix_ms (B := cm_X7_takes_10 N) (fun x : Nat × (Int → Int) => [some (.ref (cSl B s + 25 + 3 * n)), some (.ref q), some (.int (iI x.1))]) (fun x => cH h B (mA ca (40 + s) x.2) cb) (fun x => x.1 ≤ pn.toNat ∧ (∀ j, (j < 176 + 14 * (n : Int) ∨ 176 + 14 * (n : Int) + 14 ≤ j) → x.2 j = ca (40 + s) j) ∧ x.2 (176 + 14 * (n : Int)) = wt ∧ x.2 (176 + 14 * (n : Int) + 1) = x.1 ∧ (∀ k : Nat, k < x.1 → x.2 (176 + 14 * (n : Int) + 2 + 2 * (k : Int)) = f k ∧ x.2 (176 + 14 * (n : Int) + 2 + 2 * (k : Int) + 1) = g k) ∧ gB x.2) (fun x => pn.toNat - x.1) (fun z => ∃ g', (∀ j, (j < 176 + 14 * (n : Int) ∨ 176 + 14 * (n : Int) + 14 ≤ j) → g' j = ca (40 + s) j) ∧ g' (176 + 14 * (n : Int)) = wt ∧ g' (176 + 14 * (n : Int) + 1) = pn ∧ (∀ k : Nat, (k : Int) < pn → g' (176 + 14 * (n : Int) + 2 + 2 * (k : Int)) = f k ∧ g' (176 + 14 * (n : Int) + 2 + 2 * (k : Int) + 1) = g k) ∧ gB g' ∧ z = some (cH h B (mA ca (40 + s) g') cb)) ?_ N (0, rU (rU (ca (40 + s)) (176 + 14 * (n : Int)) wt) (176 + 14 * (n : Int) + 1) 0) ⟨by dsimp only; omega, fun j hj => by dsimp only; rw [rU_n (by omega), rU_n (by omega)], by dsimp only; rw [rU_n (by omega), rU_s], by dsimp only; rw [rU_s]; rfl, fun k hk => by dsimp only at hk; omega, gB_u (gB_u hb hw) (by omega)⟩ (by dsimp only; omega)
  · exact key
  · rintro K ⟨i, x⟩ ⟨p1, p2, p3, p4, p5, p6⟩
    dsimp only at p1 p2 p3 p4 p5 p6 ⊢
    obtain ⟨s1, s2, s3, a', b', s4, s5, s6, s7⟩ := src x p2
    by_cases e : i = pn.toNat
    · left
      refine ⟨x, p2, p3, by rw [p4]; omega, fun k hk => p5 k (by omega), p6, ?_⟩
      rw [eq_X7_takes_10, s3, Option.bind_some, if_pos ((iI_le ⟨by omega, by omega⟩ ⟨by omega, by omega⟩).mpr (by omega))]
    · right
      have bf := hf i (by omega)
      refine ⟨(i + 1, rU (rU (rU x (176 + 14 * (n : Int) + 2 + 2 * (i : Int)) (f i)) (176 + 14 * (n : Int) + 2 + 2 * (i : Int) + 1) (g i)) (176 + 14 * (n : Int) + 1) ((i : Int) + 1)), ⟨by dsimp only; omega, fun j hj => by dsimp only; rw [rU_n (by omega), rU_n (by omega), rU_n (by omega)]; exact p2 j hj, by dsimp only; rw [rU_n (by omega), rU_n (by omega), rU_n (by omega)]; exact p3, by dsimp only; rw [rU_s]; omega, fun k hk => ?_, gB_u (gB_u (gB_u p6 bf.1) bf.2) (by omega)⟩, by dsimp only; omega, ?_⟩
      · dsimp only at hk ⊢
        by_cases ek : k = i
        · subst ek
          exact ⟨by rw [rU_n (by omega), rU_n (by omega), rU_s], by rw [rU_n (by omega), rU_s]⟩
        · have := p5 k (by omega)
          exact ⟨by rw [rU_n (by omega), rU_n (by omega), rU_n (by omega)]; exact this.1, by rw [rU_n (by omega), rU_n (by omega), rU_n (by omega)]; exact this.2⟩
      · have e1 : ∀ y, mA ca (40 + s) y (40 + s) = y := fun y => mA_2 _ _ _
        rw [eq_X7_takes_10, s3, Option.bind_some, if_neg (fun z => by have := (iI_le ⟨by omega, by omega⟩ ⟨by omega, by omega⟩).mp z; omega), s4, Option.bind_some, s6 i (by omega), Option.bind_some, s5, Option.bind_some, s7 i (by omega), Option.bind_some, if_pos (ne_isc hs hn), en_X7_adds, eq_X7_adds_0, ne_r2 hs hn, Option.bind_some, ne_g1 hs hn, Option.bind_some, e1, p4, wo_s hs hn (by omega), Option.bind_some, e1, mA_mA, ne_r3 hs hn, Option.bind_some, ne_g1 hs hn, Option.bind_some, e1, rU_n (by omega), p4, we_s hs hn (by omega), Option.bind_some, e1, mA_mA, ne_g1 hs hn, Option.bind_some, e1, rU_n (by omega), rU_n (by omega), p4, iI_add, ne_p1 hs hn, Option.bind_some, e1, mA_mA, Option.bind_some]
        rfl
def gBl (g : Int → Int) (k : Int) (w : Nat → Int) : Int → Int := rU (rU (rU (rU (rU g (4 + 5 * k) (w 0)) (4 + 5 * k + 1) (w 1)) (4 + 5 * k + 2) (w 2)) (4 + 5 * k + 3) (w 3)) (4 + 5 * k + 4) (w 4)
def gFe (g : Int → Int) (k : Int) (w : Nat → Int) : Int → Int := rU (rU (rU (rU (rU g (24 + 4 * k) (w 0)) (24 + 4 * k + 1) (w 1)) (24 + 4 * k + 2) (w 2)) (24 + 4 * k + 3) (w 3)) (1000 + k) (w 4)
theorem d_blTakes {k q : Nat} {w : Nat → Int} (hs : s < 14) (hk : k < 4) (o : oRect (cH h B ca cb) q w) : fm_X8_takes N [.ref (cSl B s + 73 + k), .ref q] (cH h B ca cb) = some (cH h B (mA ca (40 + s) (gBl (ca (40 + s)) k w)) cb) := by
  rw [en_X8_takes, eq_X8_takes_0, o.2 0 (by omega), Option.bind_some, o.2 1 (by omega), Option.bind_some, o.2 2 (by omega), Option.bind_some, o.2 3 (by omega), Option.bind_some, o.2 4 (by omega), Option.bind_some, if_pos (bl_isc hs hk), en_X8_begins, eq_X8_begins_0, bl_p0 hs hk, Option.bind_some, bl_p1 hs hk, Option.bind_some, mA_2, mA_mA, bl_p2 hs hk, Option.bind_some, mA_2, mA_mA, bl_p3 hs hk, Option.bind_some, mA_2, mA_mA, bl_p4 hs hk, Option.bind_some, mA_2, mA_mA]
  rfl
theorem d_feTakes {k q : Nat} {w : Nat → Int} (hs : s < 14) (hk : k < 3) (o : oRect (cH h B ca cb) q w) : fm_X8_takes N [.ref (cSl B s + 77 + k), .ref q] (cH h B ca cb) = some (cH h B (mA ca (40 + s) (gFe (ca (40 + s)) k w)) cb) := by
  rw [en_X8_takes, eq_X8_takes_0, o.2 0 (by omega), Option.bind_some, o.2 1 (by omega), Option.bind_some, o.2 2 (by omega), Option.bind_some, o.2 3 (by omega), Option.bind_some, o.2 4 (by omega), Option.bind_some, if_pos (fe_isc hs hk), en_X8_begins, eq_X8_begins_0, fe_p0 hs hk, Option.bind_some, fe_p1 hs hk, Option.bind_some, mA_2, mA_mA, fe_p2 hs hk, Option.bind_some, mA_2, mA_mA, fe_p3 hs hk, Option.bind_some, mA_2, mA_mA, fe_p4 hs hk, Option.bind_some, mA_2, mA_mA]
  rfl
theorem gBl_in {g : Int → Int} {k j : Int} {w : Nat → Int} (h0 : 0 ≤ j) (h1 : j < 5) : gBl g k w (4 + 5 * k + j) = w j.toNat := by
  have e : j = 0 ∨ j = 1 ∨ j = 2 ∨ j = 3 ∨ j = 4 := by omega
  unfold gBl
  rcases e with e | e | e | e | e <;> subst e
  · rw [Int.add_zero, rU_n (by omega), rU_n (by omega), rU_n (by omega), rU_n (by omega), rU_s]; rfl
  · rw [rU_n (by omega), rU_n (by omega), rU_n (by omega), rU_s]; rfl
  · rw [rU_n (by omega), rU_n (by omega), rU_s]; rfl
  · rw [rU_n (by omega), rU_s]; rfl
  · rw [rU_s]; rfl
theorem gBl_out {g : Int → Int} {k j : Int} {w : Nat → Int} (h : j < 4 + 5 * k ∨ 4 + 5 * k + 5 ≤ j) : gBl g k w j = g j := by
  unfold gBl
  rw [rU_n (by omega), rU_n (by omega), rU_n (by omega), rU_n (by omega), rU_n (by omega)]
theorem gBl_B {g : Int → Int} {k : Int} {w : Nat → Int} (h1 : gB g) (h2 : ∀ j, j < 5 → -1000 ≤ w j ∧ w j ≤ 1000) : gB (gBl g k w) := gB_u (gB_u (gB_u (gB_u (gB_u h1 (h2 _ (by omega))) (h2 _ (by omega))) (h2 _ (by omega))) (h2 _ (by omega))) (h2 _ (by omega))
theorem gFe_in {g : Int → Int} {k j : Int} {w : Nat → Int} (hk : 0 ≤ k) (hk2 : k < 3) (h0 : 0 ≤ j) (h1 : j < 4) : gFe g k w (24 + 4 * k + j) = w j.toNat := by
  have e : j = 0 ∨ j = 1 ∨ j = 2 ∨ j = 3 := by omega
  unfold gFe
  rcases e with e | e | e | e <;> subst e
  · rw [Int.add_zero, rU_n (by omega), rU_n (by omega), rU_n (by omega), rU_n (by omega), rU_s]; rfl
  · rw [rU_n (by omega), rU_n (by omega), rU_n (by omega), rU_s]; rfl
  · rw [rU_n (by omega), rU_n (by omega), rU_s]; rfl
  · rw [rU_n (by omega), rU_s]; rfl
theorem gFe_out {g : Int → Int} {k j : Int} {w : Nat → Int} (h : j < 24 + 4 * k ∨ 24 + 4 * k + 4 ≤ j) (h2 : j ≠ 1000 + k) : gFe g k w j = g j := by
  unfold gFe
  rw [rU_n (by omega), rU_n (by omega), rU_n (by omega), rU_n (by omega), rU_n (by omega)]
theorem gFe_B {g : Int → Int} {k : Int} {w : Nat → Int} (h1 : gB g) (h2 : ∀ j, j < 5 → -1000 ≤ w j ∧ w j ≤ 1000) : gB (gFe g k w) := gB_u (gB_u (gB_u (gB_u (gB_u h1 (h2 _ (by omega))) (h2 _ (by omega))) (h2 _ (by omega))) (h2 _ (by omega))) (h2 _ (by omega))
/-! a chip taken over -/
theorem d_tk127 (hN : 5000 ≤ N) (hs : s < 14) (ht : t < 14) (st : s ≠ t) (lv : LV r (ca (40 + t))) (ok : rOk r) (no : nOk r) (bt : gB (ca (40 + t))) (g : Int → Int) (bg : gB g) (l0 : L0 r g) (lb : Lb r g (r 0)) (lcc : Lc r g (r 2)) (ln : Ln r g (r 3)) :
    ∃ g', LV r g' ∧ gB g' ∧ ki_fix (cm_X5_takes_127 N) N [some (.ref (cSl B s)), some (.ref (cSl B t)), some (.int (iI 0))] [] (cH h B (mA ca (40 + s) g) cb) = some (cSl B s, cH h B (mA ca (40 + s) g') cb) := by
  have g1 := ok.2.2.1
  have g0 := ok.2.1
  have g2 := ok.2.2.2.1
  have g3 := ok.2.2.2.2.1
  have key := fix_ms (B := cm_X5_takes_127 N) (fun x : Nat × (Int → Int) => [some (.ref (cSl B s)), some (.ref (cSl B t)), some (.int (iI x.1))]) (fun x => cH h B (mA ca (40 + s) x.2) cb) (fun x => x.1 ≤ (r 1).toNat ∧ gB x.2 ∧ L0 r x.2 ∧ Lb r x.2 (r 0) ∧ Lf r x.2 x.1 ∧ Lc r x.2 (r 2) ∧ Ln r x.2 (r 3)) (fun x => (r 1).toNat - x.1) (fun z => ∃ g', LV r g' ∧ gB g' ∧ z = some (cSl B s, cH h B (mA ca (40 + s) g') cb)) ?_ N (0, g) ⟨by dsimp only; omega, bg, l0, lb, fun k j a b => by dsimp only at b; omega, lcc, ln⟩ (by dsimp only; omega)
  · exact key
  · rintro K ⟨i, x⟩ ⟨p1, p2, p3, p4, p5, p6, p7⟩
    dsimp only at p1 p2 p3 p4 p5 p6 p7 ⊢
    have e1 : ∀ y, mA ca (40 + s) y (40 + s) = y := fun y => mA_2 _ _ _
    have e2 : ∀ y, mA ca (40 + s) y (40 + t) = ca (40 + t) := fun y => mA_n (by omega)
    by_cases e : i = (r 1).toNat
    · left
      refine ⟨x, LV_mk p3 p4 (by rw [show r 1 = (i : Int) by omega]; exact p5) p6 p7, p2, ?_⟩
      rw [eq_X5_takes_127, ch_g7 hs, Option.bind_some, e1, p3 1 (by omega) (by omega), if_pos ((iI_le ⟨by omega, by omega⟩ ⟨by omega, by omega⟩).mpr (by omega))]
    · right
      have o := fe_o (h := h) (B := B) (ca := mA ca (40 + s) x) (cb := cb) (r := r) (k := i) ht (by rw [e2]; exact lv) ok (by omega)
      refine ⟨(i + 1, gFe x i (fW r i (mA ca (40 + s) x (40 + t) (1000 + (i : Int))))), ⟨by dsimp only; omega, gFe_B p2 ?_, fun j j0 j1 => ?_, fun k j k0 k1 j0 j1 => ?_, fun k j k0 k1 j0 j1 => ?_, fun k j k0 k1 j0 j1 => ?_, fun k j k0 k1 j0 j1 => ?_⟩, by dsimp only; omega, ?_⟩
      · intro j hj
        unfold fW
        split
        · have := ok.1 (24 + 4 * i + j); omega
        · rw [e2]; exact bt _
      · dsimp only
        rw [gFe_out (by omega) (by omega)]; exact p3 j j0 j1
      · dsimp only
        rw [gFe_out (by omega) (by omega)]; exact p4 k j k0 k1 j0 j1
      · dsimp only at k1 ⊢
        by_cases ek : k = i
        · subst ek
          rw [gFe_in (by omega) (by omega) j0 j1]
          unfold fW
          rw [if_pos (by omega), show ((j.toNat : Nat) : Int) = j by omega]
        · rw [gFe_out (by omega) (by omega)]; exact p5 k j k0 (by omega) j0 j1
      · dsimp only
        rw [gFe_out (by omega) (by omega)]; exact p6 k j k0 k1 j0 j1
      · dsimp only
        have := (no k k0 k1).1
        rw [gFe_out (by omega) (by omega)]; exact p7 k j k0 k1 j0 j1
      · rw [eq_X5_takes_127, ch_g7 hs, Option.bind_some, e1, p3 1 (by omega) (by omega), if_neg (fun z => by have := (iI_le ⟨by omega, by omega⟩ ⟨by omega, by omega⟩).mp z; omega), ch_r3 hs, Option.bind_some, ch_fen hs (by omega), Option.bind_some, ch_r3 ht, Option.bind_some, ch_fen ht (by omega), Option.bind_some, if_pos (fe_isc hs (by omega)), d_feTakes hs (by omega) o, Option.bind_some, e1, mA_mA, iI_add]
        rfl
theorem d_tk96 (hN : 5000 ≤ N) (hs : s < 14) (ht : t < 14) (st : s ≠ t) (lv : LV r (ca (40 + t))) (ok : rOk r) (no : nOk r) (bt : gB (ca (40 + t))) (g : Int → Int) (bg : gB g) (l0 : L0 r g) (lcc : Lc r g (r 2)) (ln : Ln r g (r 3)) :
    ∃ g', LV r g' ∧ gB g' ∧ ki_fix (cm_X5_takes_96 N) N [some (.ref (cSl B s)), some (.ref (cSl B t)), some (.int (iI 0))] [] (cH h B (mA ca (40 + s) g) cb) = some (cSl B s, cH h B (mA ca (40 + s) g') cb) := by
  have g1 := ok.2.2.1
  have g0 := ok.2.1
  have g2 := ok.2.2.2.1
  have g3 := ok.2.2.2.2.1
  have key := fix_ms (B := cm_X5_takes_96 N) (fun x : Nat × (Int → Int) => [some (.ref (cSl B s)), some (.ref (cSl B t)), some (.int (iI x.1))]) (fun x => cH h B (mA ca (40 + s) x.2) cb) (fun x => x.1 ≤ (r 0).toNat ∧ gB x.2 ∧ L0 r x.2 ∧ Lb r x.2 x.1 ∧ Lc r x.2 (r 2) ∧ Ln r x.2 (r 3)) (fun x => (r 0).toNat - x.1) (fun z => ∃ g', LV r g' ∧ gB g' ∧ z = some (cSl B s, cH h B (mA ca (40 + s) g') cb)) ?_ N (0, g) ⟨by dsimp only; omega, bg, l0, fun k j a b => by dsimp only at b; omega, lcc, ln⟩ (by dsimp only; omega)
  · exact key
  · rintro K ⟨i, x⟩ ⟨p1, p2, p3, p4, p6, p7⟩
    dsimp only at p1 p2 p3 p4 p6 p7 ⊢
    have e1 : ∀ y, mA ca (40 + s) y (40 + s) = y := fun y => mA_2 _ _ _
    have e2 : ∀ y, mA ca (40 + s) y (40 + t) = ca (40 + t) := fun y => mA_n (by omega)
    by_cases e : i = (r 0).toNat
    · left
      obtain ⟨g', q1, q2, q3⟩ := d_tk127 (N := N) (h := h) (B := B) (cb := cb) hN hs ht st lv ok no bt x p2 p3 (by rw [show r 0 = (i : Int) by omega]; exact p4) p6 p7
      refine ⟨g', q1, q2, ?_⟩
      rw [eq_X5_takes_96, ch_g6 hs, Option.bind_some, e1, p3 0 (by omega) (by omega), if_pos ((iI_le ⟨by omega, by omega⟩ ⟨by omega, by omega⟩).mpr (by omega)), q3]
    · right
      have o := bl_o (h := h) (B := B) (ca := mA ca (40 + s) x) (cb := cb) (r := r) (k := i) ht (by rw [e2]; exact lv) ok (by omega)
      refine ⟨(i + 1, gBl x i (fun j => r (4 + 5 * (i : Int) + j))), ⟨by dsimp only; omega, gBl_B (w := fun j => r (4 + 5 * (i : Int) + j)) p2 (fun j hj => by have := ok.1 (4 + 5 * i + j); omega), fun j j0 j1 => ?_, fun k j k0 k1 j0 j1 => ?_, fun k j k0 k1 j0 j1 => ?_, fun k j k0 k1 j0 j1 => ?_⟩, by dsimp only; omega, ?_⟩
      · dsimp only
        rw [gBl_out (by omega)]; exact p3 j j0 j1
      · dsimp only at k1 ⊢
        by_cases ek : k = i
        · subst ek
          rw [gBl_in (by omega) (by omega), show ((j.toNat : Nat) : Int) = j by omega]
        · rw [gBl_out (by omega)]; exact p4 k j k0 (by omega) j0 j1
      · dsimp only
        rw [gBl_out (by omega)]; exact p6 k j k0 k1 j0 j1
      · dsimp only
        rw [gBl_out (by omega)]; exact p7 k j k0 k1 j0 j1
      · rw [eq_X5_takes_96, ch_g6 hs, Option.bind_some, e1, p3 0 (by omega) (by omega), if_neg (fun z => by have := (iI_le ⟨by omega, by omega⟩ ⟨by omega, by omega⟩).mp z; omega), ch_r2 hs, Option.bind_some, ch_blk hs (by omega), Option.bind_some, ch_r2 ht, Option.bind_some, ch_blk ht (by omega), Option.bind_some, if_pos (bl_isc hs (by omega)), d_blTakes hs (by omega) o, Option.bind_some, e1, mA_mA, iI_add]
        rfl
theorem d_tk65 (hN : 5000 ≤ N) (hs : s < 14) (ht : t < 14) (st : s ≠ t) (lv : LV r (ca (40 + t))) (ok : rOk r) (no : nOk r) (bt : gB (ca (40 + t))) (g : Int → Int) (bg : gB g) (l0 : L0 r g) (lcc : Lc r g (r 2)) :
    ∃ g', LV r g' ∧ gB g' ∧ ki_fix (cm_X5_takes_65 N) N [some (.ref (cSl B s)), some (.ref (cSl B t)), some (.int (iI 0))] [] (cH h B (mA ca (40 + s) g) cb) = some (cSl B s, cH h B (mA ca (40 + s) g') cb) := by
  have g1 := ok.2.2.1
  have g0 := ok.2.1
  have g2 := ok.2.2.2.1
  have g3 := ok.2.2.2.2.1
  have key := fix_ms (B := cm_X5_takes_65 N) (fun x : Nat × (Int → Int) => [some (.ref (cSl B s)), some (.ref (cSl B t)), some (.int (iI x.1))]) (fun x => cH h B (mA ca (40 + s) x.2) cb) (fun x => x.1 ≤ (r 3).toNat ∧ gB x.2 ∧ L0 r x.2 ∧ Lc r x.2 (r 2) ∧ Ln r x.2 x.1) (fun x => (r 3).toNat - x.1) (fun z => ∃ g', LV r g' ∧ gB g' ∧ z = some (cSl B s, cH h B (mA ca (40 + s) g') cb)) ?_ N (0, g) ⟨by dsimp only; omega, bg, l0, lcc, fun k j a b => by dsimp only at b; omega⟩ (by dsimp only; omega)
  · exact key
  · rintro K ⟨i, x⟩ ⟨p1, p2, p3, p6, p7⟩
    dsimp only at p1 p2 p3 p6 p7 ⊢
    have e1 : ∀ y, mA ca (40 + s) y (40 + s) = y := fun y => mA_2 _ _ _
    have e2 : ∀ y, mA ca (40 + s) y (40 + t) = ca (40 + t) := fun y => mA_n (by omega)
    by_cases e : i = (r 3).toNat
    · left
      obtain ⟨g', q1, q2, q3⟩ := d_tk96 (N := N) (h := h) (B := B) (cb := cb) hN hs ht st lv ok no bt x p2 p3 p6 (by rw [show r 3 = (i : Int) by omega]; exact p7)
      refine ⟨g', q1, q2, ?_⟩
      rw [eq_X5_takes_65, ch_g5 hs, Option.bind_some, e1, p3 3 (by omega) (by omega), if_pos ((iI_le ⟨by omega, by omega⟩ ⟨by omega, by omega⟩).mpr (by omega)), q3]
    · right
      have np := (no i (by omega) (by omega)).1
      have lw := lv.2.2.2.2 i 0 (by omega) (by omega) (by omega) (by omega)
      have lp := lv.2.2.2.2 i 1 (by omega) (by omega) (by omega) (by omega)
      rw [Int.add_zero] at lw
      obtain ⟨g', q1, q2, q3, q4, q5, q6⟩ := d_neTakes (N := N) (h := h) (B := B) (ca := mA ca (40 + s) x) (cb := cb) (s := s) (n := i) (q := cSl B t + 25 + 3 * i) (wt := ca (40 + t) (176 + 14 * (i : Int))) (pn := ca (40 + t) (176 + 14 * (i : Int) + 1)) (f := fun m => ca (40 + t) (176 + 14 * (i : Int) + 2 + 2 * (m : Int))) (g := fun m => ca (40 + t) (176 + 14 * (i : Int) + 2 + 2 * (m : Int) + 1)) hN hs (by omega) (by rw [e1]; exact p2) (bt _) (by omega) (fun k _ => ⟨bt _, bt _⟩) (fun g' _ => by
        have := ne_o (h := h) (B := B) (ca := mA (mA ca (40 + s) x) (40 + s) g') (cb := cb) (s := t) (n := i) ht (by omega)
        rw [mA_mA] at this ⊢
        rw [e2] at this
        exact this)
      rw [e1] at q1
      rw [mA_mA] at q6
      refine ⟨(i + 1, g'), ⟨by dsimp only; omega, q5, fun j j0 j1 => ?_, fun k j k0 k1 j0 j1 => ?_, fun k j k0 k1 j0 j1 => ?_⟩, by dsimp only; omega, ?_⟩
      · dsimp only
        rw [q1 _ (by omega)]; exact p3 j j0 j1
      · dsimp only
        rw [q1 _ (by omega)]; exact p6 k j k0 k1 j0 j1
      · dsimp only at k1 ⊢
        by_cases ek : k = i
        · subst ek
          have lj := lv.2.2.2.2 i j (by omega) (by omega) (by omega) (by omega)
          rw [← lj]
          by_cases z0 : j = 0
          · subst z0
            rw [Int.add_zero]
            exact q2
          · by_cases z1 : j = 1
            · subst z1
              exact q3
            · have q4' := q4 ((j - 2) / 2).toNat (by omega)
              by_cases z2 : j % 2 = 0
              · have := q4'.1
                rw [show (176 + 14 * (i : Int) + 2 + 2 * ((((j - 2) / 2).toNat : Nat) : Int)) = 176 + 14 * (i : Int) + j by omega] at this
                exact this
              · have := q4'.2
                rw [show (176 + 14 * (i : Int) + 2 + 2 * ((((j - 2) / 2).toNat : Nat) : Int) + 1) = 176 + 14 * (i : Int) + j by omega] at this
                exact this
        · have nk := (no k k0 (by omega)).1
          rw [q1 _ (by omega)]; exact p7 k j k0 (by omega) j0 j1
      · rw [eq_X5_takes_65, ch_g5 hs, Option.bind_some, e1, p3 3 (by omega) (by omega), if_neg (fun z => by have := (iI_le ⟨by omega, by omega⟩ ⟨by omega, by omega⟩).mp z; omega), ch_r1 hs, Option.bind_some, ch_net hs (by omega), Option.bind_some, ch_r1 ht, Option.bind_some, ch_net ht (by omega), Option.bind_some, if_pos (ne_isc hs (by omega)), q6, Option.bind_some, iI_add]
        rfl
theorem d_tk34 (hN : 5000 ≤ N) (hs : s < 14) (ht : t < 14) (st : s ≠ t) (lv : LV r (ca (40 + t))) (ok : rOk r) (no : nOk r) (fx : fxOk r) (bt : gB (ca (40 + t))) (g : Int → Int) (bg : gB g) (l0 : L0 r g) :
    ∃ g', LV r g' ∧ gB g' ∧ ki_fix (cm_X5_takes_34 N) N [some (.ref (cSl B s)), some (.ref (cSl B t)), some (.int (iI 0))] [] (cH h B (mA ca (40 + s) g) cb) = some (cSl B s, cH h B (mA ca (40 + s) g') cb) := by
  have g1 := ok.2.2.1
  have g0 := ok.2.1
  have g2 := ok.2.2.2.1
  have g3 := ok.2.2.2.2.1
  have key := fix_ms (B := cm_X5_takes_34 N) (fun x : Nat × (Int → Int) => [some (.ref (cSl B s)), some (.ref (cSl B t)), some (.int (iI x.1))]) (fun x => cH h B (mA ca (40 + s) x.2) cb) (fun x => x.1 ≤ (r 2).toNat ∧ gB x.2 ∧ L0 r x.2 ∧ Lc r x.2 x.1) (fun x => (r 2).toNat - x.1) (fun z => ∃ g', LV r g' ∧ gB g' ∧ z = some (cSl B s, cH h B (mA ca (40 + s) g') cb)) ?_ N (0, g) ⟨by dsimp only; omega, bg, l0, fun k j a b => by dsimp only at b; omega⟩ (by dsimp only; omega)
  · exact key
  · rintro K ⟨i, x⟩ ⟨p1, p2, p3, p6⟩
    dsimp only at p1 p2 p3 p6 ⊢
    have e1 : ∀ y, mA ca (40 + s) y (40 + s) = y := fun y => mA_2 _ _ _
    have e2 : ∀ y, mA ca (40 + s) y (40 + t) = ca (40 + t) := fun y => mA_n (by omega)
    by_cases e : i = (r 2).toNat
    · left
      obtain ⟨g', q1, q2, q3⟩ := d_tk65 (N := N) (h := h) (B := B) (cb := cb) hN hs ht st lv ok no bt x p2 p3 (by rw [show r 2 = (i : Int) by omega]; exact p6)
      refine ⟨g', q1, q2, ?_⟩
      rw [eq_X5_takes_34, ch_g4 hs, Option.bind_some, e1, p3 2 (by omega) (by omega), if_pos ((iI_le ⟨by omega, by omega⟩ ⟨by omega, by omega⟩).mpr (by omega)), q3]
    · right
      have lj := fun j => lv.2.2.2.1 i j (by omega) (by omega)
      have c := d_ceTakes (N := N) (h := h) (B := B) (ca := mA ca (40 + s) x) (cb := cb) (k := i) hs ht st (by omega) (by rw [e2, lj 2 (by omega) (by omega)]; exact fx i (by omega) (by omega))
      rw [e1, e2, mA_mA] at c
      refine ⟨(i + 1, gTk x (ca (40 + t)) i), ⟨by dsimp only; omega, gTk_B p2 bt, fun j j0 j1 => ?_, fun k j k0 k1 j0 j1 => ?_⟩, by dsimp only; omega, ?_⟩
      · dsimp only
        rw [gTk_out (by omega)]; exact p3 j j0 j1
      · dsimp only at k1 ⊢
        by_cases ek : k = i
        · subst ek
          rw [gTk_in (by omega) (by omega)]
          exact lj j j0 j1
        · rw [gTk_out (by omega)]; exact p6 k j k0 (by omega) j0 j1
      · rw [eq_X5_takes_34, ch_g4 hs, Option.bind_some, e1, p3 2 (by omega) (by omega), if_neg (fun z => by have := (iI_le ⟨by omega, by omega⟩ ⟨by omega, by omega⟩).mp z; omega), ch_r0 hs, Option.bind_some, ch_cell hs (by omega), Option.bind_some, ch_r0 ht, Option.bind_some, ch_cell ht (by omega), Option.bind_some, if_pos (ce_isc hs (by omega)), c, Option.bind_some, iI_add]
        rfl
theorem d_chTakes (hN : 5000 ≤ N) (hs : s < 14) (ht : t < 14) (st : s ≠ t) (lv : LV r (ca (40 + t))) (ok : rOk r) (no : nOk r) (fx : fxOk r) (bt : gB (ca (40 + t))) (bs : gB (ca (40 + s))) :
    ∃ g', LV r g' ∧ gB g' ∧ fm_X5_takes N [.ref (cSl B s), .ref (cSl B t)] (cH h B ca cb) = some (cSl B s, cH h B (mA ca (40 + s) g') cb) := by
  have e1 : ∀ y, mA ca (40 + s) y (40 + s) = y := fun y => mA_2 _ _ _
  have e2 : ∀ y, mA ca (40 + s) y (40 + t) = ca (40 + t) := fun y => mA_n (by omega)
  have l := fun j => lv.1 j
  have b0 := ok.1 0
  have b1 := ok.1 1
  have b2 := ok.1 2
  have b3 := ok.1 3
  rw [en_X5_takes, eq_X5_takes_0, ch_g4 ht, Option.bind_some, ch_p4 hs, Option.bind_some, ch_g5 ht, Option.bind_some, ch_p5 hs, Option.bind_some, e1, e2, mA_mA, ch_g6 ht, Option.bind_some, ch_p6 hs, Option.bind_some, e1, e2, mA_mA, ch_g7 ht, Option.bind_some, ch_p7 hs, Option.bind_some, e1, e2, mA_mA, l 0 (by omega) (by omega), l 1 (by omega) (by omega), l 2 (by omega) (by omega), l 3 (by omega) (by omega)]
  refine d_tk34 hN hs ht st lv ok no fx bt _ (gB_u (gB_u (gB_u (gB_u bs (by omega)) (by omega)) (by omega)) (by omega)) ?_
  intro j j0 j1
  have : j = 0 ∨ j = 1 ∨ j = 2 ∨ j = 3 := by omega
  rcases this with e | e | e | e <;> subst e
  · rw [rU_n (by omega), rU_s]
  · rw [rU_s]
  · rw [rU_n (by omega), rU_n (by omega), rU_n (by omega), rU_s]
  · rw [rU_n (by omega), rU_n (by omega), rU_s]
end C5
