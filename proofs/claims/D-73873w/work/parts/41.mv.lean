/-! ===== the model object: its int fields mf, its arrays ma (by their places) ===== -/
def mFs (a : Nat) (mf : Nat → Int) : List Value := [.int (iI (mf 0)), .int (iI (mf 1)), .int (iI (mf 2)), .int (iI (mf 3)), .ref (a + 1), .ref (a + 2), .ref (a + 3), .ref (a + 4), .ref (a + 5), .int (iI (mf 9)), .ref (a + 6), .ref (a + 7), .ref (a + 8), .int (iI (mf 13)), .ref (a + 9), .ref (a + 10), .ref (a + 11), .ref (a + 12), .int (iI (mf 18)), .ref (a + 13), .int (iI (mf 20)), .ref (a + 14), .int (iI (mf 22)), .ref (a + 15), .ref (a + 16), .int (iI (mf 25)), .ref (a + 17), .ref (a + 18), .ref (a + 19), .ref (a + 20), .ref (a + 21), .ref (a + 22), .ref (a + 23), .ref (a + 24), .int (iI (mf 34)), .long (lI (mf 35)), .ref (a + 25)]
def mLen (p : Nat) : Nat := match p with
  | 0 => 7
  | 1 => 6
  | 2 => 400
  | 3 => 4800
  | 4 => 12
  | 5 => 400
  | 6 => 400
  | 7 => 100
  | 8 => 256
  | 9 => 256
  | 10 => 256
  | 11 => 256
  | 12 => 20
  | 13 => 20
  | 14 => 20
  | 15 => 21
  | 16 => 693
  | 17 => 5
  | 18 => 5
  | 19 => 4
  | 20 => 4
  | 21 => 5
  | 22 => 5
  | 23 => 5
  | _ => 16
/-- a heap with a model object at a -/
def mH (h : ka_H) (a : Nat) (mf : Nat → Int) (ma : Nat → Int → Int) : ka_H := (fun q => if q = a then some (.inr (11, mFs a mf)) else if a < q ∧ q < a + 26 then some (.inl (0, mLen (q - a - 1), .inl fun j => iI (ma (q - a - 1) j))) else h.1 q, h.2)
def mF (mf : Nat → Int) (k : Nat) (x : Int) : Nat → Int := fun j => if j = k then x else mf j
def mU (ma : Nat → Int → Int) (p : Nat) (i x : Int) : Nat → Int → Int := fun p' j => if p' = p ∧ j = i then x else ma p' j
/-- an array as a whole -/
def mA (ma : Nat → Int → Int) (p : Nat) (f : Int → Int) : Nat → Int → Int := fun p' => if p' = p then f else ma p'
theorem mF_s (mf : Nat → Int) (k : Nat) (x : Int) : mF mf k x k = x := by simp [mF]
theorem mF_n {mf : Nat → Int} {k j : Nat} {x : Int} (h : j ≠ k) : mF mf k x j = mf j := by simp [mF, h]
theorem mU_s (ma : Nat → Int → Int) (p : Nat) (i x : Int) : mU ma p i x p i = x := by simp [mU]
theorem mU_n {ma : Nat → Int → Int} {p p' : Nat} {i j x : Int} (h : p' ≠ p ∨ j ≠ i) : mU ma p i x p' j = ma p' j := by
  unfold mU
  rw [if_neg]
  rintro ⟨h1, h2⟩
  rcases h with h | h
  · exact h h1
  · exact h h2
section MV
variable {h : ka_H} {a : Nat} {mf : Nat → Int} {ma : Nat → Int → Int}
theorem mH_a : (mH h a mf ma).1 a = some (.inr (11, mFs a mf)) := by simp [mH]
theorem mH_q {p : Nat} (hp : p < 25) : (mH h a mf ma).1 (a + 1 + p) = some (.inl (0, mLen p, .inl fun j => iI (ma p j))) := by
  simp only [mH]
  rw [if_neg (by omega), if_pos (by omega), show a + 1 + p - a - 1 = p by omega]
theorem m_isc : ka_isc (mH h a mf ma) [11] a = true := by simp [ka_isc, mH_a]
theorem m_ld {p : Nat} {i : Int} {q : Nat} (hq : q = a + 1 + p) (hp : p < 25) (h0 : 0 ≤ i) (h1 : i < mLen p) : ka_ld 0 (mH h a mf ma) q (iI i) = some (iI (ma p i)) := by
  subst hq
  have hb : mLen p ≤ 4800 := by
    unfold mLen
    split <;> omega
  unfold ka_ld
  rw [mH_q hp]
  have hi : inI i := ⟨by omega, by omega⟩
  have e : (iI i).toNatClampNeg = i.toNat := iI_clamp hi
  have hn : ¬ (iI i < 0 ∨ mLen p ≤ (iI i).toNatClampNeg) := by
    rw [e, ← iI_0, iI_lt hi ⟨by decide, by decide⟩]
    omega
  simp only [e] at hn ⊢
  rw [if_pos ⟨Or.inl trivial, hn⟩]
  congr 2
  congr 1
  omega
theorem m_sd {p : Nat} {i x : Int} {q : Nat} (hq : q = a + 1 + p) (hp : p < 25) (h0 : 0 ≤ i) (h1 : i < mLen p) : ka_sd 0 (mH h a mf ma) q (iI i) (iI x) = some (mH h a mf (mU ma p i x)) := by
  subst hq
  have hb : mLen p ≤ 4800 := by
    unfold mLen
    split <;> omega
  unfold ka_sd
  rw [mH_q hp]
  have hi : inI i := ⟨by omega, by omega⟩
  have e : (iI i).toNatClampNeg = i.toNat := iI_clamp hi
  have hn : ¬ (iI i < 0 ∨ mLen p ≤ (iI i).toNatClampNeg) := by
    rw [e, ← iI_0, iI_lt hi ⟨by decide, by decide⟩]
    omega
  simp only [e] at hn ⊢
  rw [if_pos ⟨trivial, hn⟩]
  congr 1
  unfold mH
  refine Prod.ext ?_ rfl
  funext q
  simp only [ka_up]
  by_cases e1 : q = a + 1 + p
  · subst e1
    rw [if_pos rfl, if_neg (by omega), if_pos (by omega), show a + 1 + p - a - 1 = p by omega]
    congr 5
    funext j
    simp only [upd, mU]
    by_cases ej : j = i.toNat
    · rw [if_pos ej, if_pos ⟨trivial, by omega⟩]
    · rw [if_neg ej, if_neg (by omega)]
  · rw [if_neg e1]
    by_cases e2 : q = a
    · rw [if_pos e2, if_pos e2]
    · rw [if_neg e2, if_neg e2]
      by_cases e3 : a < q ∧ q < a + 26
      · rw [if_pos e3, if_pos e3]
        congr 5
        funext j
        simp only [mU]
        rw [if_neg (by omega)]
      · rw [if_neg e3, if_neg e3]
theorem m_pf {k : Nat} {v : Value} {mf' : Nat → Int} (hk : k < 37) (hv : (mFs a mf).set k v = mFs a mf') : ka_pf (mH h a mf ma) [11] a k v = some (mH h a mf' ma) := by
  unfold ka_pf
  rw [mH_a]
  simp only
  rw [if_pos ⟨by simp, by simpa [mFs] using hk⟩]
  congr 1
  unfold mH
  refine Prod.ext ?_ rfl
  funext q
  simp only [ka_up]
  by_cases e2 : q = a
  · rw [if_pos e2, if_pos e2, hv]
  · rw [if_neg e2, if_neg e2, if_neg e2]
theorem m_g0 : ka_gi (mH h a mf ma) [11] a 0 = some (iI (mf 0)) := by simp [ka_gi, ka_gf, mH_a, mFs]
theorem m_p0 (x : Int) : ka_pf (mH h a mf ma) [11] a 0 (.int (iI x)) = some (mH h a (mF mf 0 x) ma) := m_pf (by decide) (by simp [mFs, mF])
theorem m_g1 : ka_gi (mH h a mf ma) [11] a 1 = some (iI (mf 1)) := by simp [ka_gi, ka_gf, mH_a, mFs]
theorem m_p1 (x : Int) : ka_pf (mH h a mf ma) [11] a 1 (.int (iI x)) = some (mH h a (mF mf 1 x) ma) := m_pf (by decide) (by simp [mFs, mF])
theorem m_g2 : ka_gi (mH h a mf ma) [11] a 2 = some (iI (mf 2)) := by simp [ka_gi, ka_gf, mH_a, mFs]
theorem m_p2 (x : Int) : ka_pf (mH h a mf ma) [11] a 2 (.int (iI x)) = some (mH h a (mF mf 2 x) ma) := m_pf (by decide) (by simp [mFs, mF])
theorem m_g3 : ka_gi (mH h a mf ma) [11] a 3 = some (iI (mf 3)) := by simp [ka_gi, ka_gf, mH_a, mFs]
theorem m_p3 (x : Int) : ka_pf (mH h a mf ma) [11] a 3 (.int (iI x)) = some (mH h a (mF mf 3 x) ma) := m_pf (by decide) (by simp [mFs, mF])
theorem m_g9 : ka_gi (mH h a mf ma) [11] a 9 = some (iI (mf 9)) := by simp [ka_gi, ka_gf, mH_a, mFs]
theorem m_p9 (x : Int) : ka_pf (mH h a mf ma) [11] a 9 (.int (iI x)) = some (mH h a (mF mf 9 x) ma) := m_pf (by decide) (by simp [mFs, mF])
theorem m_g13 : ka_gi (mH h a mf ma) [11] a 13 = some (iI (mf 13)) := by simp [ka_gi, ka_gf, mH_a, mFs]
theorem m_p13 (x : Int) : ka_pf (mH h a mf ma) [11] a 13 (.int (iI x)) = some (mH h a (mF mf 13 x) ma) := m_pf (by decide) (by simp [mFs, mF])
theorem m_g18 : ka_gi (mH h a mf ma) [11] a 18 = some (iI (mf 18)) := by simp [ka_gi, ka_gf, mH_a, mFs]
theorem m_p18 (x : Int) : ka_pf (mH h a mf ma) [11] a 18 (.int (iI x)) = some (mH h a (mF mf 18 x) ma) := m_pf (by decide) (by simp [mFs, mF])
theorem m_g20 : ka_gi (mH h a mf ma) [11] a 20 = some (iI (mf 20)) := by simp [ka_gi, ka_gf, mH_a, mFs]
theorem m_p20 (x : Int) : ka_pf (mH h a mf ma) [11] a 20 (.int (iI x)) = some (mH h a (mF mf 20 x) ma) := m_pf (by decide) (by simp [mFs, mF])
theorem m_g22 : ka_gi (mH h a mf ma) [11] a 22 = some (iI (mf 22)) := by simp [ka_gi, ka_gf, mH_a, mFs]
theorem m_p22 (x : Int) : ka_pf (mH h a mf ma) [11] a 22 (.int (iI x)) = some (mH h a (mF mf 22 x) ma) := m_pf (by decide) (by simp [mFs, mF])
theorem m_g25 : ka_gi (mH h a mf ma) [11] a 25 = some (iI (mf 25)) := by simp [ka_gi, ka_gf, mH_a, mFs]
theorem m_p25 (x : Int) : ka_pf (mH h a mf ma) [11] a 25 (.int (iI x)) = some (mH h a (mF mf 25 x) ma) := m_pf (by decide) (by simp [mFs, mF])
theorem m_g34 : ka_gi (mH h a mf ma) [11] a 34 = some (iI (mf 34)) := by simp [ka_gi, ka_gf, mH_a, mFs]
theorem m_p34 (x : Int) : ka_pf (mH h a mf ma) [11] a 34 (.int (iI x)) = some (mH h a (mF mf 34 x) ma) := m_pf (by decide) (by simp [mFs, mF])
theorem m_g35 : ka_gl (mH h a mf ma) [11] a 35 = some (lI (mf 35)) := by simp [ka_gl, ka_gf, mH_a, mFs]
theorem m_p35 (x : Int) : ka_pf (mH h a mf ma) [11] a 35 (.long (lI x)) = some (mH h a (mF mf 35 x) ma) := m_pf (by decide) (by simp [mFs, mF])
theorem m_r4 : ka_gr (mH h a mf ma) [11] a 4 = some (a + 1) := by simp [ka_gr, ka_gf, mH_a, mFs]
/-- refusals -/
theorem m_l4 {i : Int} (h0 : 0 ≤ i) (h1 : i < 7) : ka_ld 0 (mH h a mf ma) (a + 1) (iI i) = some (iI (ma 0 i)) := m_ld (by omega) (by decide) h0 (by simpa [mLen] using h1)
theorem m_s4 {i x : Int} (h0 : 0 ≤ i) (h1 : i < 7) : ka_sd 0 (mH h a mf ma) (a + 1) (iI i) (iI x) = some (mH h a mf (mU ma 0 i x)) := m_sd (by omega) (by decide) h0 (by simpa [mLen] using h1)
theorem m_r5 : ka_gr (mH h a mf ma) [11] a 5 = some (a + 2) := by simp [ka_gr, ka_gf, mH_a, mFs]
/-- term -/
theorem m_l5 {i : Int} (h0 : 0 ≤ i) (h1 : i < 6) : ka_ld 0 (mH h a mf ma) (a + 2) (iI i) = some (iI (ma 1 i)) := m_ld (by omega) (by decide) h0 (by simpa [mLen] using h1)
theorem m_s5 {i x : Int} (h0 : 0 ≤ i) (h1 : i < 6) : ka_sd 0 (mH h a mf ma) (a + 2) (iI i) (iI x) = some (mH h a mf (mU ma 1 i x)) := m_sd (by omega) (by decide) h0 (by simpa [mLen] using h1)
theorem m_r6 : ka_gr (mH h a mf ma) [11] a 6 = some (a + 3) := by simp [ka_gr, ka_gf, mH_a, mFs]
/-- row -/
theorem m_l6 {i : Int} (h0 : 0 ≤ i) (h1 : i < 400) : ka_ld 0 (mH h a mf ma) (a + 3) (iI i) = some (iI (ma 2 i)) := m_ld (by omega) (by decide) h0 (by simpa [mLen] using h1)
theorem m_s6 {i x : Int} (h0 : 0 ≤ i) (h1 : i < 400) : ka_sd 0 (mH h a mf ma) (a + 3) (iI i) (iI x) = some (mH h a mf (mU ma 2 i x)) := m_sd (by omega) (by decide) h0 (by simpa [mLen] using h1)
theorem m_r7 : ka_gr (mH h a mf ma) [11] a 7 = some (a + 4) := by simp [ka_gr, ka_gf, mH_a, mFs]
/-- undos -/
theorem m_l7 {i : Int} (h0 : 0 ≤ i) (h1 : i < 4800) : ka_ld 0 (mH h a mf ma) (a + 4) (iI i) = some (iI (ma 3 i)) := m_ld (by omega) (by decide) h0 (by simpa [mLen] using h1)
theorem m_s7 {i x : Int} (h0 : 0 ≤ i) (h1 : i < 4800) : ka_sd 0 (mH h a mf ma) (a + 4) (iI i) (iI x) = some (mH h a mf (mU ma 3 i x)) := m_sd (by omega) (by decide) h0 (by simpa [mLen] using h1)
theorem m_r8 : ka_gr (mH h a mf ma) [11] a 8 = some (a + 5) := by simp [ka_gr, ka_gf, mH_a, mFs]
/-- sorts1 -/
theorem m_l8 {i : Int} (h0 : 0 ≤ i) (h1 : i < 12) : ka_ld 0 (mH h a mf ma) (a + 5) (iI i) = some (iI (ma 4 i)) := m_ld (by omega) (by decide) h0 (by simpa [mLen] using h1)
theorem m_s8 {i x : Int} (h0 : 0 ≤ i) (h1 : i < 12) : ka_sd 0 (mH h a mf ma) (a + 5) (iI i) (iI x) = some (mH h a mf (mU ma 4 i x)) := m_sd (by omega) (by decide) h0 (by simpa [mLen] using h1)
theorem m_r10 : ka_gr (mH h a mf ma) [11] a 10 = some (a + 6) := by simp [ka_gr, ka_gf, mH_a, mFs]
/-- ahead -/
theorem m_l10 {i : Int} (h0 : 0 ≤ i) (h1 : i < 400) : ka_ld 0 (mH h a mf ma) (a + 6) (iI i) = some (iI (ma 5 i)) := m_ld (by omega) (by decide) h0 (by simpa [mLen] using h1)
theorem m_s10 {i x : Int} (h0 : 0 ≤ i) (h1 : i < 400) : ka_sd 0 (mH h a mf ma) (a + 6) (iI i) (iI x) = some (mH h a mf (mU ma 5 i x)) := m_sd (by omega) (by decide) h0 (by simpa [mLen] using h1)
theorem m_r11 : ka_gr (mH h a mf ma) [11] a 11 = some (a + 7) := by simp [ka_gr, ka_gf, mH_a, mFs]
/-- lowest -/
theorem m_l11 {i : Int} (h0 : 0 ≤ i) (h1 : i < 400) : ka_ld 0 (mH h a mf ma) (a + 7) (iI i) = some (iI (ma 6 i)) := m_ld (by omega) (by decide) h0 (by simpa [mLen] using h1)
theorem m_s11 {i x : Int} (h0 : 0 ≤ i) (h1 : i < 400) : ka_sd 0 (mH h a mf ma) (a + 7) (iI i) (iI x) = some (mH h a mf (mU ma 6 i x)) := m_sd (by omega) (by decide) h0 (by simpa [mLen] using h1)
theorem m_r12 : ka_gr (mH h a mf ma) [11] a 12 = some (a + 8) := by simp [ka_gr, ka_gf, mH_a, mFs]
/-- tape -/
theorem m_l12 {i : Int} (h0 : 0 ≤ i) (h1 : i < 100) : ka_ld 0 (mH h a mf ma) (a + 8) (iI i) = some (iI (ma 7 i)) := m_ld (by omega) (by decide) h0 (by simpa [mLen] using h1)
theorem m_s12 {i x : Int} (h0 : 0 ≤ i) (h1 : i < 100) : ka_sd 0 (mH h a mf ma) (a + 8) (iI i) (iI x) = some (mH h a mf (mU ma 7 i x)) := m_sd (by omega) (by decide) h0 (by simpa [mLen] using h1)
theorem m_r14 : ka_gr (mH h a mf ma) [11] a 14 = some (a + 9) := by simp [ka_gr, ka_gf, mH_a, mFs]
/-- runRow -/
theorem m_l14 {i : Int} (h0 : 0 ≤ i) (h1 : i < 256) : ka_ld 0 (mH h a mf ma) (a + 9) (iI i) = some (iI (ma 8 i)) := m_ld (by omega) (by decide) h0 (by simpa [mLen] using h1)
theorem m_s14 {i x : Int} (h0 : 0 ≤ i) (h1 : i < 256) : ka_sd 0 (mH h a mf ma) (a + 9) (iI i) (iI x) = some (mH h a mf (mU ma 8 i x)) := m_sd (by omega) (by decide) h0 (by simpa [mLen] using h1)
theorem m_r15 : ka_gr (mH h a mf ma) [11] a 15 = some (a + 10) := by simp [ka_gr, ka_gf, mH_a, mFs]
/-- runFence -/
theorem m_l15 {i : Int} (h0 : 0 ≤ i) (h1 : i < 256) : ka_ld 0 (mH h a mf ma) (a + 10) (iI i) = some (iI (ma 9 i)) := m_ld (by omega) (by decide) h0 (by simpa [mLen] using h1)
theorem m_s15 {i x : Int} (h0 : 0 ≤ i) (h1 : i < 256) : ka_sd 0 (mH h a mf ma) (a + 10) (iI i) (iI x) = some (mH h a mf (mU ma 9 i x)) := m_sd (by omega) (by decide) h0 (by simpa [mLen] using h1)
theorem m_r16 : ka_gr (mH h a mf ma) [11] a 16 = some (a + 11) := by simp [ka_gr, ka_gf, mH_a, mFs]
/-- runFirst -/
theorem m_l16 {i : Int} (h0 : 0 ≤ i) (h1 : i < 256) : ka_ld 0 (mH h a mf ma) (a + 11) (iI i) = some (iI (ma 10 i)) := m_ld (by omega) (by decide) h0 (by simpa [mLen] using h1)
theorem m_s16 {i x : Int} (h0 : 0 ≤ i) (h1 : i < 256) : ka_sd 0 (mH h a mf ma) (a + 11) (iI i) (iI x) = some (mH h a mf (mU ma 10 i x)) := m_sd (by omega) (by decide) h0 (by simpa [mLen] using h1)
theorem m_r17 : ka_gr (mH h a mf ma) [11] a 17 = some (a + 12) := by simp [ka_gr, ka_gf, mH_a, mFs]
/-- runLong -/
theorem m_l17 {i : Int} (h0 : 0 ≤ i) (h1 : i < 256) : ka_ld 0 (mH h a mf ma) (a + 12) (iI i) = some (iI (ma 11 i)) := m_ld (by omega) (by decide) h0 (by simpa [mLen] using h1)
theorem m_s17 {i x : Int} (h0 : 0 ≤ i) (h1 : i < 256) : ka_sd 0 (mH h a mf ma) (a + 12) (iI i) (iI x) = some (mH h a mf (mU ma 11 i x)) := m_sd (by omega) (by decide) h0 (by simpa [mLen] using h1)
theorem m_r19 : ka_gr (mH h a mf ma) [11] a 19 = some (a + 13) := by simp [ka_gr, ka_gf, mH_a, mFs]
/-- lies -/
theorem m_l19 {i : Int} (h0 : 0 ≤ i) (h1 : i < 20) : ka_ld 0 (mH h a mf ma) (a + 13) (iI i) = some (iI (ma 12 i)) := m_ld (by omega) (by decide) h0 (by simpa [mLen] using h1)
theorem m_s19 {i x : Int} (h0 : 0 ≤ i) (h1 : i < 20) : ka_sd 0 (mH h a mf ma) (a + 13) (iI i) (iI x) = some (mH h a mf (mU ma 12 i x)) := m_sd (by omega) (by decide) h0 (by simpa [mLen] using h1)
theorem m_r21 : ka_gr (mH h a mf ma) [11] a 21 = some (a + 14) := by simp [ka_gr, ka_gf, mH_a, mFs]
/-- queue -/
theorem m_l21 {i : Int} (h0 : 0 ≤ i) (h1 : i < 20) : ka_ld 0 (mH h a mf ma) (a + 14) (iI i) = some (iI (ma 13 i)) := m_ld (by omega) (by decide) h0 (by simpa [mLen] using h1)
theorem m_s21 {i x : Int} (h0 : 0 ≤ i) (h1 : i < 20) : ka_sd 0 (mH h a mf ma) (a + 14) (iI i) (iI x) = some (mH h a mf (mU ma 13 i x)) := m_sd (by omega) (by decide) h0 (by simpa [mLen] using h1)
theorem m_r23 : ka_gr (mH h a mf ma) [11] a 23 = some (a + 15) := by simp [ka_gr, ka_gf, mH_a, mFs]
/-- goesTo -/
theorem m_l23 {i : Int} (h0 : 0 ≤ i) (h1 : i < 20) : ka_ld 0 (mH h a mf ma) (a + 15) (iI i) = some (iI (ma 14 i)) := m_ld (by omega) (by decide) h0 (by simpa [mLen] using h1)
theorem m_s23 {i x : Int} (h0 : 0 ≤ i) (h1 : i < 20) : ka_sd 0 (mH h a mf ma) (a + 15) (iI i) (iI x) = some (mH h a mf (mU ma 14 i x)) := m_sd (by omega) (by decide) h0 (by simpa [mLen] using h1)
theorem m_r24 : ka_gr (mH h a mf ma) [11] a 24 = some (a + 16) := by simp [ka_gr, ka_gf, mH_a, mFs]
/-- some -/
theorem m_l24 {i : Int} (h0 : 0 ≤ i) (h1 : i < 21) : ka_ld 0 (mH h a mf ma) (a + 16) (iI i) = some (iI (ma 15 i)) := m_ld (by omega) (by decide) h0 (by simpa [mLen] using h1)
theorem m_s24 {i x : Int} (h0 : 0 ≤ i) (h1 : i < 21) : ka_sd 0 (mH h a mf ma) (a + 16) (iI i) (iI x) = some (mH h a mf (mU ma 15 i x)) := m_sd (by omega) (by decide) h0 (by simpa [mLen] using h1)
theorem m_r26 : ka_gr (mH h a mf ma) [11] a 26 = some (a + 17) := by simp [ka_gr, ka_gf, mH_a, mFs]
/-- leastFrom -/
theorem m_l26 {i : Int} (h0 : 0 ≤ i) (h1 : i < 693) : ka_ld 0 (mH h a mf ma) (a + 17) (iI i) = some (iI (ma 16 i)) := m_ld (by omega) (by decide) h0 (by simpa [mLen] using h1)
theorem m_s26 {i x : Int} (h0 : 0 ≤ i) (h1 : i < 693) : ka_sd 0 (mH h a mf ma) (a + 17) (iI i) (iI x) = some (mH h a mf (mU ma 16 i x)) := m_sd (by omega) (by decide) h0 (by simpa [mLen] using h1)
theorem m_r27 : ka_gr (mH h a mf ma) [11] a 27 = some (a + 18) := by simp [ka_gr, ka_gf, mH_a, mFs]
/-- order -/
theorem m_l27 {i : Int} (h0 : 0 ≤ i) (h1 : i < 5) : ka_ld 0 (mH h a mf ma) (a + 18) (iI i) = some (iI (ma 17 i)) := m_ld (by omega) (by decide) h0 (by simpa [mLen] using h1)
theorem m_s27 {i x : Int} (h0 : 0 ≤ i) (h1 : i < 5) : ka_sd 0 (mH h a mf ma) (a + 18) (iI i) (iI x) = some (mH h a mf (mU ma 17 i x)) := m_sd (by omega) (by decide) h0 (by simpa [mLen] using h1)
theorem m_r28 : ka_gr (mH h a mf ma) [11] a 28 = some (a + 19) := by simp [ka_gr, ka_gf, mH_a, mFs]
/-- bestOrder -/
theorem m_l28 {i : Int} (h0 : 0 ≤ i) (h1 : i < 5) : ka_ld 0 (mH h a mf ma) (a + 19) (iI i) = some (iI (ma 18 i)) := m_ld (by omega) (by decide) h0 (by simpa [mLen] using h1)
theorem m_s28 {i x : Int} (h0 : 0 ≤ i) (h1 : i < 5) : ka_sd 0 (mH h a mf ma) (a + 19) (iI i) (iI x) = some (mH h a mf (mU ma 18 i x)) := m_sd (by omega) (by decide) h0 (by simpa [mLen] using h1)
theorem m_r29 : ka_gr (mH h a mf ma) [11] a 29 = some (a + 20) := by simp [ka_gr, ka_gf, mH_a, mFs]
/-- some4 -/
theorem m_l29 {i : Int} (h0 : 0 ≤ i) (h1 : i < 4) : ka_ld 0 (mH h a mf ma) (a + 20) (iI i) = some (iI (ma 19 i)) := m_ld (by omega) (by decide) h0 (by simpa [mLen] using h1)
theorem m_s29 {i x : Int} (h0 : 0 ≤ i) (h1 : i < 4) : ka_sd 0 (mH h a mf ma) (a + 20) (iI i) (iI x) = some (mH h a mf (mU ma 19 i x)) := m_sd (by omega) (by decide) h0 (by simpa [mLen] using h1)
theorem m_r30 : ka_gr (mH h a mf ma) [11] a 30 = some (a + 21) := by simp [ka_gr, ka_gf, mH_a, mFs]
/-- gaps -/
theorem m_l30 {i : Int} (h0 : 0 ≤ i) (h1 : i < 4) : ka_ld 0 (mH h a mf ma) (a + 21) (iI i) = some (iI (ma 20 i)) := m_ld (by omega) (by decide) h0 (by simpa [mLen] using h1)
theorem m_s30 {i x : Int} (h0 : 0 ≤ i) (h1 : i < 4) : ka_sd 0 (mH h a mf ma) (a + 21) (iI i) (iI x) = some (mH h a mf (mU ma 20 i x)) := m_sd (by omega) (by decide) h0 (by simpa [mLen] using h1)
theorem m_r31 : ka_gr (mH h a mf ma) [11] a 31 = some (a + 22) := by simp [ka_gr, ka_gf, mH_a, mFs]
/-- group -/
theorem m_l31 {i : Int} (h0 : 0 ≤ i) (h1 : i < 5) : ka_ld 0 (mH h a mf ma) (a + 22) (iI i) = some (iI (ma 21 i)) := m_ld (by omega) (by decide) h0 (by simpa [mLen] using h1)
theorem m_s31 {i x : Int} (h0 : 0 ≤ i) (h1 : i < 5) : ka_sd 0 (mH h a mf ma) (a + 22) (iI i) (iI x) = some (mH h a mf (mU ma 21 i x)) := m_sd (by omega) (by decide) h0 (by simpa [mLen] using h1)
theorem m_r32 : ka_gr (mH h a mf ma) [11] a 32 = some (a + 23) := by simp [ka_gr, ka_gf, mH_a, mFs]
/-- groupRow -/
theorem m_l32 {i : Int} (h0 : 0 ≤ i) (h1 : i < 5) : ka_ld 0 (mH h a mf ma) (a + 23) (iI i) = some (iI (ma 22 i)) := m_ld (by omega) (by decide) h0 (by simpa [mLen] using h1)
theorem m_s32 {i x : Int} (h0 : 0 ≤ i) (h1 : i < 5) : ka_sd 0 (mH h a mf ma) (a + 23) (iI i) (iI x) = some (mH h a mf (mU ma 22 i x)) := m_sd (by omega) (by decide) h0 (by simpa [mLen] using h1)
theorem m_r33 : ka_gr (mH h a mf ma) [11] a 33 = some (a + 24) := by simp [ka_gr, ka_gf, mH_a, mFs]
/-- groupSite -/
theorem m_l33 {i : Int} (h0 : 0 ≤ i) (h1 : i < 5) : ka_ld 0 (mH h a mf ma) (a + 24) (iI i) = some (iI (ma 23 i)) := m_ld (by omega) (by decide) h0 (by simpa [mLen] using h1)
theorem m_s33 {i x : Int} (h0 : 0 ≤ i) (h1 : i < 5) : ka_sd 0 (mH h a mf ma) (a + 24) (iI i) (iI x) = some (mH h a mf (mU ma 23 i x)) := m_sd (by omega) (by decide) h0 (by simpa [mLen] using h1)
theorem m_r36 : ka_gr (mH h a mf ma) [11] a 36 = some (a + 25) := by simp [ka_gr, ka_gf, mH_a, mFs]
/-- supplies -/
theorem m_l36 {i : Int} (h0 : 0 ≤ i) (h1 : i < 16) : ka_ld 0 (mH h a mf ma) (a + 25) (iI i) = some (iI (ma 24 i)) := m_ld (by omega) (by decide) h0 (by simpa [mLen] using h1)
theorem m_s36 {i x : Int} (h0 : 0 ≤ i) (h1 : i < 16) : ka_sd 0 (mH h a mf ma) (a + 25) (iI i) (iI x) = some (mH h a mf (mU ma 24 i x)) := m_sd (by omega) (by decide) h0 (by simpa [mLen] using h1)
end MV
