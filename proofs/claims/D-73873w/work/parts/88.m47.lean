/-! ===== the model: shake ===== -/
theorem lI_dv {x k : Int} (h0 : 0 ≤ x ∧ x ≤ 9000000000000000000) (h1 : 0 < k ∧ k ≤ 9000000000000000000) : lI x / lI k = lI (x / k) := by
  apply Int64.toInt_inj.mp
  have b1 : 0 ≤ x / k := Int.ediv_nonneg h0.1 (by omega)
  have b2 : x / k ≤ x := Int.ediv_le_self _ h0.1
  rw [lI_toInt (by omega) (by omega), Int64.toInt_div_of_ne_right, lI_toInt (by omega) (by omega), lI_toInt (by omega) (by omega), tdiv_nn h0.1]
  intro e
  have := congrArg Int64.toInt e
  rw [lI_toInt (by omega) (by omega)] at this
  have e2 : (-1 : Int64).toInt = -1 := by decide
  omega
theorem lI_rm {x k : Int} (h0 : 0 ≤ x ∧ x ≤ 9000000000000000000) (h1 : 0 < k ∧ k ≤ 9000000000000000000) : lI x - lI x / lI k * lI k = lI (x % k) := by
  rw [lI_dv h0 h1, lI_mul, lI_sub]
  congr 1
  have := Int.mul_ediv_add_emod x k
  have e : k * (x / k) = x / k * k := Int.mul_comm _ _
  omega
theorem lI_i {x : Int} (h0 : 0 ≤ x ∧ x < 2147483648) : (lI x).toInt32 = iI x := by
  apply Int32.toInt_inj.mp
  rw [Int64.toInt_toInt32, lI_toInt (by omega) (by omega), iI_toInt ⟨by omega, by omega⟩]
  exact Int.bmod_eq_of_le (by omega) (by omega)
def sNx (s : Int) : Int := (s * 1103 + 12345) % 1000003
theorem sNx_b (s : Int) : 0 ≤ sNx s ∧ sNx s < 1000003 := by
  unfold sNx
  omega
/-- one exchange that heat allows -/
def rSh1 (tall : Int) (r : Int → Int) (hot : Int) (x y : Nat) : Int → Int := if (x ≠ y ∧ sLike r x y = true) ∧ sWire tall (rExch r x y) ≤ sWire tall r + hot then rExch r x y else r
/-- the row, the state, the heat, the least, the row with it -/
def sShk (tall : Int) (r : Int → Int) (seed heat : Int) : Nat → (Int → Int) × Int × Int × Int × (Int → Int)
  | 0 => (r, seed, heat, sWire tall r, r)
  | k + 1 =>
    (rSh1 tall (sShk tall r seed heat k).1 (sShk tall r seed heat k).2.2.1 (sNx (sShk tall r seed heat k).2.1 % r 2).toNat (sNx (sNx (sShk tall r seed heat k).2.1) % r 2).toNat,
     sNx (sNx (sShk tall r seed heat k).2.1),
     7 * (sShk tall r seed heat k).2.2.1 / 8,
     if sWire tall (rSh1 tall (sShk tall r seed heat k).1 (sShk tall r seed heat k).2.2.1 (sNx (sShk tall r seed heat k).2.1 % r 2).toNat (sNx (sNx (sShk tall r seed heat k).2.1) % r 2).toNat) < (sShk tall r seed heat k).2.2.2.1 then sWire tall (rSh1 tall (sShk tall r seed heat k).1 (sShk tall r seed heat k).2.2.1 (sNx (sShk tall r seed heat k).2.1 % r 2).toNat (sNx (sNx (sShk tall r seed heat k).2.1) % r 2).toNat) else (sShk tall r seed heat k).2.2.2.1,
     if sWire tall (rSh1 tall (sShk tall r seed heat k).1 (sShk tall r seed heat k).2.2.1 (sNx (sShk tall r seed heat k).2.1 % r 2).toNat (sNx (sNx (sShk tall r seed heat k).2.1) % r 2).toNat) < (sShk tall r seed heat k).2.2.2.1 then rSh1 tall (sShk tall r seed heat k).1 (sShk tall r seed heat k).2.2.1 (sNx (sShk tall r seed heat k).2.1 % r 2).toNat (sNx (sNx (sShk tall r seed heat k).2.1) % r 2).toNat else (sShk tall r seed heat k).2.2.2.2)
theorem rSh1_ok {tall : Int} {r : Int → Int} {hot : Int} {a b : Nat} (v : vOk r) (ha : a < 20) (hb : b < 20) : vOk (rSh1 tall r hot a b) ∧ sameX r (rSh1 tall r hot a b) := by
  unfold rSh1
  split
  · exact ⟨vOk_exch v (by omega) (by omega), sameX_exch (by omega) (by omega)⟩
  · exact ⟨v, sameX_r r⟩
theorem sShk_ok {tall : Int} {r : Int → Int} {seed heat : Int} (ht : 1 ≤ tall ∧ tall ≤ 8) (v : vOk r) (h2 : 0 < r 2) (hs : 0 ≤ seed ∧ seed ≤ 1000003) (hh : 0 ≤ heat ∧ heat ≤ 9999) (k : Nat) :
    (vOk (sShk tall r seed heat k).1 ∧ sameX r (sShk tall r seed heat k).1) ∧ (0 ≤ (sShk tall r seed heat k).2.1 ∧ (sShk tall r seed heat k).2.1 ≤ 1000003) ∧ (0 ≤ (sShk tall r seed heat k).2.2.1 ∧ (sShk tall r seed heat k).2.2.1 ≤ 9999) ∧ (0 ≤ (sShk tall r seed heat k).2.2.2.1 ∧ (sShk tall r seed heat k).2.2.2.1 ≤ 77760000) ∧ (vOk (sShk tall r seed heat k).2.2.2.2 ∧ sameX r (sShk tall r seed heat k).2.2.2.2) ∧ (sShk tall r seed heat k).2.2.2.1 = sWire tall (sShk tall r seed heat k).2.2.2.2 := by
  have g2 := v.1.2.2.2.1
  induction k with
  | zero => exact ⟨⟨v, sameX_r r⟩, hs, hh, sWire_b ht v, ⟨v, sameX_r r⟩, rfl⟩
  | succ k ih =>
    rw [sShk]
    obtain ⟨i1, i2, i3, i4, i5, i6⟩ := ih
    generalize sShk tall r seed heat k = x at i1 i2 i3 i4 i5 i6
    have m1 : 0 ≤ sNx x.2.1 % r 2 ∧ sNx x.2.1 % r 2 < r 2 := ⟨Int.emod_nonneg _ (by omega), Int.emod_lt_of_pos _ (by omega)⟩
    have m2 : 0 ≤ sNx (sNx x.2.1) % r 2 ∧ sNx (sNx x.2.1) % r 2 < r 2 := ⟨Int.emod_nonneg _ (by omega), Int.emod_lt_of_pos _ (by omega)⟩
    have o := rSh1_ok (tall := tall) (hot := x.2.2.1) (a := (sNx x.2.1 % r 2).toNat) (b := (sNx (sNx x.2.1) % r 2).toNat) i1.1 (by omega) (by omega)
    have bn := sNx_b (sNx x.2.1)
    have bw := sWire_b ht o.1
    dsimp only
    refine ⟨⟨o.1, sameX_t i1.2 o.2⟩, by omega, by omega, ?_, ?_, ?_⟩
    · split
      · exact bw
      · exact i4
    · split
      · exact ⟨o.1, sameX_t i1.2 o.2⟩
      · exact i5
    · split
      · rfl
      · exact i6
section M47
variable {N : Nat} {h : ka_H} {a : Nat} {mf : Nat → Int} {ma : Nat → Int → Int}
theorem c_draw {n : Int} (hs : 0 ≤ mf 35 ∧ mf 35 ≤ 1000003) (hn : 1 ≤ n ∧ n ≤ 20) : fm_X9_draw N [.ref a, .int (iI n)] (mH h a mf ma) = some (iI (sNx (mf 35) % n), mH h a (mF mf 35 (sNx (mf 35))) ma) := by
  have bn := sNx_b (mf 35)
  have m1 : 0 ≤ sNx (mf 35) % n ∧ sNx (mf 35) % n < n := ⟨Int.emod_nonneg _ (by omega), Int.emod_lt_of_pos _ (by omega)⟩
  have z : ¬ lI n = 0 := by
    intro e
    have := congrArg Int64.toInt e
    rw [lI_toInt (by omega) (by omega)] at this
    have e2 : (0 : Int64).toInt = 0 := by decide
    omega
  rw [en_X9_draw, eq_X9_draw_0, m_g35, Option.bind_some, if_neg (by decide), lI_mul, lI_add, lI_rm (by omega) (by omega), m_p35, Option.bind_some, m_g35, Option.bind_some, mF_s, iI_long (by omega) (by omega), if_neg z]
  show some ((lI (sNx (mf 35)) - lI (sNx (mf 35)) / lI n * lI n).toInt32, _) = _
  rw [lI_rm (by omega) (by omega), lI_i (by omega)]
  rfl
end M47
