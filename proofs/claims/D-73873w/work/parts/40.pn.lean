/-! ===== PLAIN LEAN: numbers ===== -/
theorem iI_add (a b : Int) : iI a + iI b = iI (a + b) := (Int32.ofInt_add a b).symm
theorem iI_sub (a b : Int) : iI a - iI b = iI (a - b) := (Int32.ofInt_sub a b).symm
theorem iI_mul (a b : Int) : iI a * iI b = iI (a * b) := (Int32.ofInt_mul a b).symm
theorem iI_neg (a : Int) : -iI a = iI (-a) := (Int32.ofInt_neg a).symm
/-- a number that an int holds -/
def inI (a : Int) : Prop := -2147483648 ≤ a ∧ a < 2147483648
theorem iI_toInt {a : Int} (h : inI a) : (iI a).toInt = a := Int32.toInt_ofInt_of_le (by have := h.1; simpa using this) (by have := h.2; simpa using this)
theorem iI_le {a b : Int} (ha : inI a) (hb : inI b) : (iI a ≤ iI b) ↔ a ≤ b := by rw [Int32.le_iff_toInt_le, iI_toInt ha, iI_toInt hb]
theorem iI_lt {a b : Int} (ha : inI a) (hb : inI b) : (iI a < iI b) ↔ a < b := by rw [Int32.lt_iff_toInt_lt, iI_toInt ha, iI_toInt hb]
theorem iI_eq {a b : Int} (ha : inI a) (hb : inI b) : (iI a = iI b) ↔ a = b := ⟨fun h => by rw [← iI_toInt ha, ← iI_toInt hb, h], fun h => by rw [h]⟩
theorem iI_clamp {a : Int} (h : inI a) : (iI a).toNatClampNeg = a.toNat := by show (iI a).toInt.toNat = _; rw [iI_toInt h]
theorem nI_iI (n : Nat) : nI n = iI n := by
  unfold nI iI
  exact (Int32.ofInt_eq_ofNat).symm
theorem iI_of (x : Int32) : ∃ a : Int, inI a ∧ x = iI a := ⟨x.toInt, ⟨by have := Int32.le_toInt x; simpa using this, by have := Int32.toInt_lt x; simpa using this⟩, (Int32.ofInt_toInt x).symm⟩
theorem iI_div {a b : Int} (ha : inI a) (hb : inI b) (h0 : 0 < b) : iI a / iI b = iI (a.tdiv b) := by
  apply Int32.toInt_inj.mp
  have hr : inI (a.tdiv b) := by
    have h1 : (a.tdiv b).natAbs ≤ a.natAbs := by rw [Int.natAbs_tdiv]; exact Nat.div_le_self _ _
    unfold inI at *
    have h2 : a ≠ -2147483648 ∨ b = 1 ∨ 1 < b := by omega
    constructor
    · omega
    · rcases Int.lt_or_le a 0 with h | h
      · have h3 : a.tdiv b ≤ 0 := by
          have := Int.tdiv_nonneg (a := -a) (b := b) (by omega) (by omega)
          rw [Int.neg_tdiv] at this
          omega
        omega
      · omega
  rw [iI_toInt hr, Int32.toInt_div_of_ne_right, iI_toInt ha, iI_toInt hb]
  intro e
  rw [show (-1 : Int32) = iI (-1) by decide, iI_eq hb (by unfold inI; omega)] at e
  omega
theorem iI_rem {a b : Int} (ha : inI a) (hb : inI b) (h0 : 0 < b) : iI a - iI a / iI b * iI b = iI (a.tmod b) := by
  rw [iI_div ha hb h0, iI_mul, iI_sub]
  congr 1
  have := Int.tmod_add_mul_tdiv a b
  have e : b * a.tdiv b = a.tdiv b * b := Int.mul_comm _ _
  omega
theorem ki_fix_s {β : Type} (B : ka_K β → ka_K β) (n : Nat) : ki_fix B (n + 1) = B (ki_fix B n) := rfl
/-- a loop that counts up -/
theorem fix_up {β : Type} {B : ka_K β → ka_K β} (L : Nat → ka_L) (H : Nat → ka_H) {R : Option β} (e : Nat) (hx : ∀ K, B K (L e) [] (H e) = R) (hs : ∀ K i, i < e → B K (L i) [] (H i) = K (L (i + 1)) [] (H (i + 1))) : ∀ n i, i ≤ e → e - i < n → ki_fix B n (L i) [] (H i) = R := by
  intro n
  induction n with
  | zero => intro i _ h; omega
  | succ n ih =>
    intro i h1 h2
    rw [ki_fix_s]
    by_cases h : i = e
    · subst h; exact hx _
    · rw [hs _ i (by omega)]
      exact ih (i + 1) (by omega) (by omega)
theorem iI_zb (b : Bool) : ((if b = true then iI 1 else iI 0) = iI 0) ↔ b = false := by cases b <;> decide
theorem iI_ob (b : Bool) : ((if b = true then iI 1 else iI 0) = iI 1) ↔ b = true := by cases b <;> decide
/-! bounds that omega sees -/
theorem iI_leD {a b : Int} (h1 : -2147483648 ≤ a) (h2 : a < 2147483648) (h3 : -2147483648 ≤ b) (h4 : b < 2147483648) : (iI a ≤ iI b) = (a ≤ b) := propext (iI_le ⟨h1, h2⟩ ⟨h3, h4⟩)
theorem iI_ltD {a b : Int} (h1 : -2147483648 ≤ a) (h2 : a < 2147483648) (h3 : -2147483648 ≤ b) (h4 : b < 2147483648) : (iI a < iI b) = (a < b) := propext (iI_lt ⟨h1, h2⟩ ⟨h3, h4⟩)
theorem iI_eqD {a b : Int} (h1 : -2147483648 ≤ a) (h2 : a < 2147483648) (h3 : -2147483648 ≤ b) (h4 : b < 2147483648) : (iI a = iI b) = (a = b) := propext (iI_eq ⟨h1, h2⟩ ⟨h3, h4⟩)
/-! longs -/
theorem iI_long {a : Int} (h1 : -2147483648 ≤ a) (h2 : a < 2147483648) : (iI a).toInt64 = lI a := by
  apply Int64.toInt_inj.mp
  rw [Int32.toInt_toInt64, iI_toInt ⟨h1, h2⟩]
  exact (Int64.toInt_ofInt_of_le (by simp; omega) (by simp; omega)).symm
theorem lI_sub (a b : Int) : lI a - lI b = lI (a - b) := (Int64.ofInt_sub a b).symm
theorem lI_add (a b : Int) : lI a + lI b = lI (a + b) := (Int64.ofInt_add a b).symm
theorem lI_mul (a b : Int) : lI a * lI b = lI (a * b) := (Int64.ofInt_mul a b).symm
theorem lI_toInt {a : Int} (h1 : -9000000000000000000 ≤ a) (h2 : a ≤ 9000000000000000000) : (lI a).toInt = a := Int64.toInt_ofInt_of_le (by simp; omega) (by simp; omega)
theorem lI_lt {a b : Int} (h1 : -9000000000000000000 ≤ a) (h2 : a ≤ 9000000000000000000) (h3 : -9000000000000000000 ≤ b) (h4 : b ≤ 9000000000000000000) : (lI a < lI b) ↔ a < b := by rw [Int64.lt_iff_toInt_lt, lI_toInt h1 h2, lI_toInt h3 h4]
theorem lI_cmp_lt {a b : Int} (h1 : -9000000000000000000 ≤ a) (h2 : a ≤ 9000000000000000000) (h3 : -9000000000000000000 ≤ b) (h4 : b ≤ 9000000000000000000) : (lg_cmp (lI a) (lI b) < iI 0) = (a < b) := by
  unfold lg_cmp
  have e1 := lI_lt h3 h4 h1 h2
  by_cases hab : a < b
  · have n1 : ¬ lI a > lI b := fun q => by have := e1.mp q; omega
    have n2 : ¬ lI a = lI b := fun q => by
      have := congrArg Int64.toInt q
      rw [lI_toInt h1 h2, lI_toInt h3 h4] at this
      omega
    rw [if_neg n1, if_neg n2]
    simp [hab]
    decide
  · simp only [hab, eq_iff_iff, iff_false]
    split
    · decide
    · split
      · decide
      · next n1 n2 =>
        exfalso
        apply n2
        apply Int64.toInt_inj.mp
        rw [lI_toInt h1 h2, lI_toInt h3 h4]
        have : ¬ b < a := fun q => n1 (e1.mpr q)
        omega
theorem lI_cmp_gt {a b : Int} (h1 : -9000000000000000000 ≤ a) (h2 : a ≤ 9000000000000000000) (h3 : -9000000000000000000 ≤ b) (h4 : b ≤ 9000000000000000000) : (iI 0 < lg_cmp (lI a) (lI b)) = (b < a) := by
  unfold lg_cmp
  have e1 := lI_lt h3 h4 h1 h2
  by_cases hab : b < a
  · rw [if_pos (e1.mpr hab)]
    simp [hab]
    decide
  · have n1 : ¬ lI a > lI b := fun q => hab (e1.mp q)
    rw [if_neg n1]
    simp only [hab, eq_iff_iff, iff_false]
    split <;> decide
/-! searches and sums -/
def aP (p : Nat → Bool) : Nat → Bool
  | 0 => false
  | n + 1 => aP p n || p n
def aS (f : Nat → Int) : Nat → Int
  | 0 => 0
  | n + 1 => aS f n + f n
/-- the last one; none: -1 -/
def aL (p : Nat → Bool) : Nat → Int
  | 0 => -1
  | n + 1 => if p n = true then n else aL p n
theorem aP_iff {p : Nat → Bool} {n : Nat} : aP p n = true ↔ ∃ k, k < n ∧ p k = true := by
  induction n with
  | zero => simp [aP]
  | succ n ih =>
    rw [aP, Bool.or_eq_true, ih]
    constructor
    · rintro (⟨k, h1, h2⟩ | h)
      · exact ⟨k, by omega, h2⟩
      · exact ⟨n, by omega, h⟩
    · rintro ⟨k, h1, h2⟩
      by_cases e : k = n
      · subst e; exact Or.inr h2
      · exact Or.inl ⟨k, by omega, h2⟩
theorem aP_false {p : Nat → Bool} {n : Nat} : aP p n = false ↔ ∀ k, k < n → p k = false := by
  rw [← Bool.not_eq_true, aP_iff]
  constructor
  · intro h k hk
    cases hp : p k with
    | false => rfl
    | true => exact absurd ⟨k, hk, hp⟩ h
  · rintro h ⟨k, hk, hp⟩
    rw [h k hk] at hp
    cases hp
theorem aL_none {p : Nat → Bool} {n : Nat} : aL p n = -1 ↔ aP p n = false := by
  induction n with
  | zero => simp [aL, aP]
  | succ n ih =>
    rw [aL, aP, Bool.or_eq_false_iff]
    by_cases h : p n = true
    · simp [h]
    · rw [if_neg h, ih]; simp [h]
theorem aL_range {p : Nat → Bool} {n : Nat} : -1 ≤ aL p n ∧ aL p n < n := by
  induction n with
  | zero => simp [aL]
  | succ n ih => rw [aL]; split <;> omega
theorem aL_some {p : Nat → Bool} {n k : Nat} (h : aL p n = k) : k < n ∧ p k = true := by
  induction n with
  | zero => simp [aL] at h
  | succ n ih =>
    rw [aL] at h
    split at h
    · next hp =>
      have : n = k := by omega
      subst this
      exact ⟨by omega, hp⟩
    · obtain ⟨h1, h2⟩ := ih h
      exact ⟨by omega, h2⟩
/-- the one place with p is the last -/
theorem aL_uniq {p : Nat → Bool} {n k : Nat} (hk : k < n) (hp : p k = true) (hu : ∀ j, j < n → p j = true → j = k) : aL p n = k := by
  have h1 : ¬ aL p n = -1 := by
    rw [aL_none, aP_false]
    intro h
    rw [h k hk] at hp
    cases hp
  have h2 := aL_range (p := p) (n := n)
  have h3 : aL p n = ((aL p n).toNat : Int) := by omega
  obtain ⟨h4, h5⟩ := aL_some h3
  have := hu _ h4 h5
  omega
theorem aS_congr {f g : Nat → Int} {n : Nat} (h : ∀ k, k < n → f k = g k) : aS f n = aS g n := by
  induction n with
  | zero => rfl
  | succ n ih => rw [aS, aS, ih (fun k hk => h k (by omega)), h n (by omega)]
theorem aP_congr {f g : Nat → Bool} {n : Nat} (h : ∀ k, k < n → f k = g k) : aP f n = aP g n := by
  induction n with
  | zero => rfl
  | succ n ih => rw [aP, aP, ih (fun k hk => h k (by omega)), h n (by omega)]
theorem aL_congr {f g : Nat → Bool} {n : Nat} (h : ∀ k, k < n → f k = g k) : aL f n = aL g n := by
  induction n with
  | zero => rfl
  | succ n ih => rw [aL, aL, ih (fun k hk => h k (by omega)), h n (by omega)]
theorem fix_aP {β : Type} {B : ka_K β → ka_K β} (L : Nat → ka_L) (h : ka_H) {r0 r1 : Option β} (p : Nat → Bool) (e : Nat) (hx : ∀ K, B K (L e) [] h = r0) (hs : ∀ K i, i < e → B K (L i) [] h = if p i = true then r1 else K (L (i + 1)) [] h) : ∀ n i, i ≤ e → e - i < n → aP p i = false → ki_fix B n (L i) [] h = if aP p e = true then r1 else r0 := by
  intro n
  induction n with
  | zero => intro i _ h; omega
  | succ n ih =>
    intro i h1 h2 h3
    rw [ki_fix_s]
    by_cases h : i = e
    · subst h
      rw [hx, if_neg (by rw [h3]; decide)]
    · rw [hs _ i (by omega)]
      by_cases hp : p i = true
      · rw [if_pos hp, if_pos (aP_iff.mpr ⟨i, by omega, hp⟩)]
      · rw [if_neg hp]
        exact ih (i + 1) (by omega) (by omega) (by rw [aP, h3]; simpa using hp)
