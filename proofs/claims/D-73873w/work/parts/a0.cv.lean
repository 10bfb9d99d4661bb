/-! ===== the component: its cells by their places ===== -/
/-- a chip's cells, by their offsets: the row's numbers as the model lays them (fences' halos from 1000 on) -/
def cKc (B c : Nat) (r : Int → Int) (i : Nat) : ka_C :=
  if i = 0 then .inr (7, [.ref (c + 1), .ref (c + 2), .ref (c + 3), .ref (c + 4), .int (iI (r 2)), .int (iI (r 3)), .int (iI (r 0)), .int (iI (r 1)), .ref B])
  else if i = 1 then .inl (4, 20, .inr fun j => if j < 20 then some (c + 5 + j) else none)
  else if i = 2 then .inl (5, 16, .inr fun j => if j < 16 then some (c + 25 + 3 * j) else none)
  else if i = 3 then .inl (6, 4, .inr fun j => if j < 4 then some (c + 73 + j) else none)
  else if i = 4 then .inl (6, 3, .inr fun j => if j < 3 then some (c + 77 + j) else none)
  else if i < 25 then .inr (6, [.int (iI ((i - 5 : Nat) : Int)), .int (iI (r (36 + 7 * ((i - 5 : Nat) : Int)))), .int (iI (r (36 + 7 * ((i - 5 : Nat) : Int) + 1))), .int (iI (r (36 + 7 * ((i - 5 : Nat) : Int) + 3))), .int (iI (r (36 + 7 * ((i - 5 : Nat) : Int) + 4))), .int (iI (r (36 + 7 * ((i - 5 : Nat) : Int) + 5))), .int (iI (r (36 + 7 * ((i - 5 : Nat) : Int) + 6))), .int (iI (r (36 + 7 * ((i - 5 : Nat) : Int) + 2))), .ref B])
  else if i < 73 then (if (i - 25) % 3 = 0 then .inr (8, [.int (iI (r (176 + 14 * (((i - 25) / 3 : Nat) : Int)))), .int (iI (r (176 + 14 * (((i - 25) / 3 : Nat) : Int) + 1))), .ref (c + i + 1), .ref (c + i + 2)])
    else if (i - 25) % 3 = 1 then .inl (0, 6, .inl fun m => if m < 6 then iI (r (176 + 14 * (((i - 25) / 3 : Nat) : Int) + 2 + 2 * (m : Int))) else 0)
    else .inl (0, 6, .inl fun m => if m < 6 then iI (r (176 + 14 * (((i - 25) / 3 : Nat) : Int) + 2 + 2 * (m : Int) + 1)) else 0))
  else if i < 77 then .inr (9, [.int (iI (r (4 + 5 * ((i - 73 : Nat) : Int)))), .int (iI (r (4 + 5 * ((i - 73 : Nat) : Int) + 1))), .int (iI (r (4 + 5 * ((i - 73 : Nat) : Int) + 2))), .int (iI (r (4 + 5 * ((i - 73 : Nat) : Int) + 3))), .int (iI (r (4 + 5 * ((i - 73 : Nat) : Int) + 4)))])
  else .inr (9, [.int (iI (r (24 + 4 * ((i - 77 : Nat) : Int)))), .int (iI (r (24 + 4 * ((i - 77 : Nat) : Int) + 1))), .int (iI (r (24 + 4 * ((i - 77 : Nat) : Int) + 2))), .int (iI (r (24 + 4 * ((i - 77 : Nat) : Int) + 3))), .int (iI (r (1000 + ((i - 77 : Nat) : Int))))])
/-- what a cell of a chip says of the row -/
def cRd (i : Nat) (x : Int) : Prop :=
  (i = 0 ∧ 0 ≤ x ∧ x < 4) ∨ (5 ≤ i ∧ i < 25 ∧ 36 + 7 * ((i : Int) - 5) ≤ x ∧ x < 36 + 7 * ((i : Int) - 5) + 7) ∨ (25 ≤ i ∧ i < 73 ∧ (((i - 25) % 3 = 0 ∧ 176 + 14 * (((i - 25) / 3 : Nat) : Int) ≤ x ∧ x < 176 + 14 * (((i - 25) / 3 : Nat) : Int) + 2) ∨ ((i - 25) % 3 = 1 ∧ (x % 2 = 0 ∧ 176 + 14 * (((i - 25) / 3 : Nat) : Int) + 2 ≤ x ∧ x < 176 + 14 * (((i - 25) / 3 : Nat) : Int) + 14)) ∨ ((i - 25) % 3 = 2 ∧ (x % 2 = 1 ∧ 176 + 14 * (((i - 25) / 3 : Nat) : Int) + 2 ≤ x ∧ x < 176 + 14 * (((i - 25) / 3 : Nat) : Int) + 14)))) ∨ (73 ≤ i ∧ i < 77 ∧ 4 + 5 * ((i : Int) - 73) ≤ x ∧ x < 4 + 5 * ((i : Int) - 73) + 5) ∨ (77 ≤ i ∧ ((24 + 4 * ((i : Int) - 77) ≤ x ∧ x < 24 + 4 * ((i : Int) - 77) + 4) ∨ x = 1000 + ((i : Int) - 77)))
theorem cKc_n {B c : Nat} {r : Int → Int} {x y : Int} {i : Nat} (h : ¬ cRd i x) : cKc B c (rU r x y) i = cKc B c r i := by
  unfold cRd at h
  unfold cKc
  by_cases e0 : i = 0
  · rw [if_pos e0, if_pos e0, rU_n (by omega), rU_n (by omega), rU_n (by omega), rU_n (by omega)]
  · rw [if_neg e0, if_neg e0]
    by_cases e1 : i = 1
    · rw [if_pos e1, if_pos e1]
    · rw [if_neg e1, if_neg e1]
      by_cases e2 : i = 2
      · rw [if_pos e2, if_pos e2]
      · rw [if_neg e2, if_neg e2]
        by_cases e3 : i = 3
        · rw [if_pos e3, if_pos e3]
        · rw [if_neg e3, if_neg e3]
          by_cases e4 : i = 4
          · rw [if_pos e4, if_pos e4]
          · rw [if_neg e4, if_neg e4]
            by_cases e5 : i < 25
            · rw [if_pos e5, if_pos e5, rU_n (by omega), rU_n (by omega), rU_n (by omega), rU_n (by omega), rU_n (by omega), rU_n (by omega), rU_n (by omega)]
            · rw [if_neg e5, if_neg e5]
              by_cases e6 : i < 73
              · rw [if_pos e6, if_pos e6]
                by_cases f0 : (i - 25) % 3 = 0
                · rw [if_pos f0, if_pos f0, rU_n (by omega), rU_n (by omega)]
                · rw [if_neg f0, if_neg f0]
                  by_cases f1 : (i - 25) % 3 = 1
                  · rw [if_pos f1, if_pos f1]
                    congr 4
                    funext m
                    by_cases hm : m < 6
                    · rw [if_pos hm, if_pos hm, rU_n (by omega)]
                    · rw [if_neg hm, if_neg hm]
                  · rw [if_neg f1, if_neg f1]
                    congr 4
                    funext m
                    by_cases hm : m < 6
                    · rw [if_pos hm, if_pos hm, rU_n (by omega)]
                    · rw [if_neg hm, if_neg hm]
              · rw [if_neg e6, if_neg e6]
                by_cases e7 : i < 77
                · rw [if_pos e7, if_pos e7, rU_n (by omega), rU_n (by omega), rU_n (by omega), rU_n (by omega), rU_n (by omega)]
                · rw [if_neg e7, if_neg e7, rU_n (by omega), rU_n (by omega), rU_n (by omega), rU_n (by omega), rU_n (by omega)]
/-- where a chip is -/
def cSl (B s : Nat) : Nat := B + 31 + 80 * s
/-- the component's cells by their offsets: ca 0 refused 1 term 2 undoneWhat 3 tape 4 bestRow 5 bestSite 6.. from's rows, 30 int fields, 31 the undone chips' slots, 32 at 0 the chip's slot, 40.. the chips -/
def cOff (B : Nat) (ca : Nat → Int → Int) (cb : Value) (i : Nat) : ka_C :=
  if i = 0 then .inr (0, [.int (iI (ca 30 0)), .int (iI (ca 30 1)), .int (iI (ca 30 2)), .ref (B + 1), .ref (B + 2), .ref (cSl B (ca 32 0).toNat), .ref (cSl B 1), .ref (B + 3), .ref (B + 4), .int (iI (ca 30 9)), .ref (B + 5), .int (iI (ca 30 11)), .ref (B + 6), .ref (B + 7), cb, .ref (B + 8), .int (iI (ca 30 16)), .int (iI (ca 30 17)), .int (iI (ca 30 18)), .ref (B + 29), .ref (B + 30)])
  else if i = 1 then .inl (0, 7, .inl fun j => iI (ca 0 j))
  else if i = 2 then .inl (0, 6, .inl fun j => iI (ca 1 j))
  else if i = 3 then .inl (3, 12, .inr fun j => if j < 12 then some (cSl B (ca 31 j).toNat) else none)
  else if i = 4 then .inl (0, 12, .inl fun j => iI (ca 2 j))
  else if i = 5 then .inl (1, 100, .inl fun j => iI (ca 3 j))
  else if i = 6 then .inr (1, [.ref B, .ref B])
  else if i = 7 then .inr (2, [.ref B, .ref B])
  else if i = 8 then .inl (8, 20, .inr fun j => if j < 20 then some (B + 9 + j) else none)
  else if i < 29 then .inl (0, 33, .inl fun j => iI (ca (6 + (i - 9)) j))
  else if i = 29 then .inl (0, 20, .inl fun j => iI (ca 4 j))
  else if i = 30 then .inl (0, 20, .inl fun j => iI (ca 5 j))
  else cKc B (cSl B ((i - 31) / 80)) (ca (40 + (i - 31) / 80)) ((i - 31) % 80)
/-- a heap with the component at B -/
def cH (h : ka_H) (B : Nat) (ca : Nat → Int → Int) (cb : Value) : ka_H := (fun q => if B ≤ q ∧ q < B + 1151 then some (cOff B ca cb (q - B)) else h.1 q, h.2)
section CV
variable {h : ka_H} {B : Nat} {ca : Nat → Int → Int} {cb : Value}
theorem cH_i {i : Nat} (hi : i < 1151) : (cH h B ca cb).1 (B + i) = some (cOff B ca cb i) := by
  simp only [cH]
  rw [if_pos (by omega), show B + i - B = i by omega]
theorem cH_o {q : Nat} (hq : q < B ∨ B + 1151 ≤ q) : (cH h B ca cb).1 q = h.1 q := by
  simp only [cH]
  rw [if_neg (by omega)]
/-- a cell of a chip -/
theorem cH_c {s i : Nat} (hs : s < 14) (hi : i < 80) : (cH h B ca cb).1 (cSl B s + i) = some (cKc B (cSl B s) (ca (40 + s)) i) := by
  have e : cSl B s + i = B + (31 + 80 * s + i) := by unfold cSl; omega
  rw [e, cH_i (by omega)]
  unfold cOff
  rw [if_neg (by omega), if_neg (by omega), if_neg (by omega), if_neg (by omega), if_neg (by omega), if_neg (by omega), if_neg (by omega), if_neg (by omega), if_neg (by omega), if_neg (by omega), if_neg (by omega), if_neg (by omega), show (31 + 80 * s + i - 31) / 80 = s by omega, show (31 + 80 * s + i - 31) % 80 = i by omega]
/-- one number of a chip's row changes with one cell -/
theorem cH_up {s i : Nat} {x y : Int} {z : ka_C} (hs : s < 14) (hi : i < 80) (hz : z = cKc B (cSl B s) (rU (ca (40 + s)) x y) i) (ho : ∀ j, j < 80 → j ≠ i → ¬ cRd j x) : (ka_up (cH h B ca cb).1 (cSl B s + i) z, (cH h B ca cb).2) = cH h B (mA ca (40 + s) (rU (ca (40 + s)) x y)) cb := by
  refine Prod.ext ?_ rfl
  funext q
  have e : cSl B s + i = B + (31 + 80 * s + i) := by unfold cSl; omega
  simp only [ka_up]
  by_cases e1 : q = cSl B s + i
  · rw [if_pos e1, e1, cH_c hs hi, mA_2, hz]
  · rw [if_neg e1]
    simp only [cH]
    by_cases e2 : B ≤ q ∧ q < B + 1151
    · rw [if_pos e2, if_pos e2]
      congr 1
      unfold cOff
      by_cases e3 : q - B < 31
      · have n30 : ∀ p, p < 40 → mA ca (40 + s) (rU (ca (40 + s)) x y) p = ca p := fun p hp => mA_n (by omega)
        rw [n30 30 (by omega), n30 0 (by omega), n30 1 (by omega), n30 2 (by omega), n30 3 (by omega), n30 4 (by omega), n30 5 (by omega), n30 31 (by omega), n30 32 (by omega)]
        by_cases e4 : q - B < 29
        · by_cases e5 : 9 ≤ q - B
          · rw [n30 (6 + (q - B - 9)) (by omega)]
            simp only [if_pos e4, show ¬ (q - B = 0) by omega, show ¬ (q - B = 1) by omega, show ¬ (q - B = 2) by omega, show ¬ (q - B = 3) by omega, show ¬ (q - B = 4) by omega, show ¬ (q - B = 5) by omega, show ¬ (q - B = 6) by omega, show ¬ (q - B = 7) by omega, show ¬ (q - B = 8) by omega, if_false]
          · have : q - B = 0 ∨ q - B = 1 ∨ q - B = 2 ∨ q - B = 3 ∨ q - B = 4 ∨ q - B = 5 ∨ q - B = 6 ∨ q - B = 7 ∨ q - B = 8 := by omega
            rcases this with f | f | f | f | f | f | f | f | f <;> rw [f] <;> simp
        · have : q - B = 29 ∨ q - B = 30 := by omega
          rcases this with f | f <;> rw [f] <;> simp
      · rw [if_neg (by omega), if_neg (by omega), if_neg (by omega), if_neg (by omega), if_neg (by omega), if_neg (by omega), if_neg (by omega), if_neg (by omega), if_neg (by omega), if_neg (by omega), if_neg (by omega), if_neg (by omega), if_neg (by omega), if_neg (by omega), if_neg (by omega), if_neg (by omega), if_neg (by omega), if_neg (by omega), if_neg (by omega), if_neg (by omega), if_neg (by omega), if_neg (by omega), if_neg (by omega), if_neg (by omega)]
        by_cases e6 : (q - B - 31) / 80 = s
        · rw [e6, mA_2, cKc_n]
          refine ho _ (by omega) ?_
          intro f
          apply e1
          omega
        · rw [mA_n (by omega)]
    · rw [if_neg e2, if_neg e2]
end CV
