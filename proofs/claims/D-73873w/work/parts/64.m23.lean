/-! ===== the model: smooth spans ===== -/
theorem aS_b {f : Nat → Int} {lo hi : Int} {n : Nat} (hf : ∀ k, k < n → lo ≤ f k ∧ f k ≤ hi) : n * lo ≤ aS f n ∧ aS f n ≤ n * hi := by
  induction n with
  | zero => simp [aS]
  | succ n ih =>
    have h1 := ih (fun k hk => hf k (by omega))
    have h2 := hf n (by omega)
    rw [aS]
    have e1 : ((n + 1 : Nat) : Int) * lo = n * lo + lo := by rw [Int.natCast_succ, Int.add_mul, Int.one_mul]
    have e2 : ((n + 1 : Nat) : Int) * hi = n * hi + hi := by rw [Int.natCast_succ, Int.add_mul, Int.one_mul]
    omega
theorem aS_ge {f : Nat → Int} {n k : Nat} (hf : ∀ k, k < n → 0 ≤ f k) (hk : k < n) : f k ≤ aS f n := by
  induction n with
  | zero => omega
  | succ n ih =>
    rw [aS]
    have h0 := hf n (by omega)
    have hs : 0 ≤ aS f n := by
      have := (aS_b (f := f) (lo := 0) (hi := aS f n + aS f n) (n := n))
      clear this
      have : ∀ m, m ≤ n → 0 ≤ aS f m := by
        intro m hm
        induction m with
        | zero => simp [aS]
        | succ m im =>
          rw [aS]
          have := im (by omega)
          have := hf m (by omega)
          omega
      exact this n (by omega)
    by_cases e : k = n
    · subst e; omega
    · have := ih (fun k hk => hf k (by omega)) (by omega)
      omega
theorem aMx_at {f : Nat → Int} {z : Int} {n : Nat} (hn : 0 < n) (hf : ∀ k, k < n → z < f k) : ∃ k, k < n ∧ aMx f z n = f k := by
  induction n with
  | zero => omega
  | succ n ih =>
    rw [aMx]
    by_cases e : n = 0
    · subst e
      refine ⟨0, by omega, ?_⟩
      have := hf 0 (by omega)
      rw [aMx, if_neg (by omega)]
    · obtain ⟨k, h1, h2⟩ := ih (by omega) (fun k hk => hf k (by omega))
      by_cases q : f n ≤ aMx f z n
      · exact ⟨k, by omega, by rw [if_pos q]; exact h2⟩
      · exact ⟨n, by omega, by rw [if_neg q]⟩
theorem aMn_at {f : Nat → Int} {z : Int} {n : Nat} (hn : 0 < n) (hf : ∀ k, k < n → f k < z) : ∃ k, k < n ∧ aMn f z n = f k := by
  induction n with
  | zero => omega
  | succ n ih =>
    rw [aMn]
    by_cases e : n = 0
    · subst e
      refine ⟨0, by omega, ?_⟩
      have := hf 0 (by omega)
      rw [aMn, if_neg (by omega)]
    · obtain ⟨k, h1, h2⟩ := ih (by omega) (fun k hk => hf k (by omega))
      by_cases q : aMn f z n ≤ f n
      · exact ⟨k, by omega, by rw [if_pos q]; exact h2⟩
      · exact ⟨n, by omega, by rw [if_neg q]⟩
theorem aMx_ge {f : Nat → Int} {z : Int} {n k : Nat} (hk : k < n) : f k ≤ aMx f z n := by
  induction n with
  | zero => omega
  | succ n ih =>
    rw [aMx]
    by_cases e : k = n
    · subst e; split <;> omega
    · have := ih (by omega)
      split <;> omega
theorem aMn_le {f : Nat → Int} {z : Int} {n k : Nat} (hk : k < n) : aMn f z n ≤ f k := by
  induction n with
  | zero => omega
  | succ n ih =>
    rw [aMn]
    by_cases e : k = n
    · subst e; split <;> omega
    · have := ih (by omega)
      split <;> omega
/-- a share, by how far -/
def sSha (g v : Int) : Int := if v / g ≤ 12 then 4096 / 2 ^ (v / g).toNat else 0
theorem sSha_13 : ∀ q : Fin 13, iI 4096 >>> (iI (q.val : Int) &&& 31) = iI (4096 / 2 ^ q.val) ∧ (1 : Int) ≤ 4096 / 2 ^ q.val ∧ (4096 : Int) / 2 ^ q.val ≤ 4096 := by decide
theorem sSha_b {g v : Int} (hg : 1 ≤ g) (hv : 0 ≤ v) : 0 ≤ sSha g v ∧ sSha g v ≤ 4096 := by
  unfold sSha
  split
  · have h0 : 0 ≤ v / g := Int.ediv_nonneg hv (by omega)
    have := sSha_13 ⟨(v / g).toNat, by omega⟩
    simp only at this
    omega
  · omega
theorem sSha_0 (g : Int) : sSha g 0 = 4096 := by
  unfold sSha
  rw [Int.zero_ediv]
  decide
/-- the mean of how far, by shares -/
def sMF (g : Int) (f : Nat → Int) (n : Nat) : Int := aS (fun k => f k * sSha g (f k)) n / aS (fun k => sSha g (f k)) n
def sHiF (r : Int → Int) (up : Bool) (n : Int) (k : Nat) : Int := sGr r false up n - sPin r false up n k
def sLoF (r : Int → Int) (up : Bool) (n : Int) (k : Nat) : Int := sPin r false up n k - sLe r false up n
def sSmB (g : Int) (r : Int → Int) (up : Bool) (n : Int) : Int := (sGr r false up n - sMF g (sHiF r up n) (r (176 + 14 * n + 1)).toNat) - (sLe r false up n + sMF g (sLoF r up n) (r (176 + 14 * n + 1)).toNat)
def sSm (tall g : Int) (r : Int → Int) (n : Int) : Int := sSmB g r false n + tall * sSmB g r true n
def sSms (tall g : Int) (r : Int → Int) : Int := aS (fun n => r (176 + 14 * n) * sSm tall g r n) (r 3).toNat
/-- terms in their ranges -/
def tmOk (t : Int → Int) : Prop := (1 ≤ t 0 ∧ t 0 ≤ 64) ∧ (10 ≤ t 1 ∧ t 1 ≤ 100) ∧ (0 ≤ t 2 ∧ t 2 ≤ 99) ∧ (1 ≤ t 3 ∧ t 3 ≤ 64) ∧ (1 ≤ t 4 ∧ t 4 ≤ 8) ∧ (1 ≤ t 5 ∧ t 5 ≤ 99)
theorem mul_b {x y X Y : Int} (h1 : 0 ≤ x) (h2 : x ≤ X) (h3 : 0 ≤ y) (h4 : y ≤ Y) : 0 ≤ x * y ∧ x * y ≤ X * Y := ⟨Int.mul_nonneg h1 h3, Int.mul_le_mul h2 h4 h3 (by omega)⟩
theorem sMF_num {g : Int} {f : Nat → Int} {n : Nat} (hg : 1 ≤ g) (hn : n ≤ 6) (hf : ∀ k, k < n → 0 ≤ f k ∧ f k ≤ 60000) : 0 ≤ aS (fun k => f k * sSha g (f k)) n ∧ aS (fun k => f k * sSha g (f k)) n ≤ 6 * 245760000 := by
  have := aS_b (f := fun k => f k * sSha g (f k)) (lo := 0) (hi := 245760000) (n := n) (fun k hk => by
    have h1 := hf k hk
    have h2 := sSha_b hg h1.1
    exact mul_b h1.1 h1.2 h2.1 h2.2)
  omega
theorem sMF_den {g : Int} {f : Nat → Int} {n : Nat} (hg : 1 ≤ g) (hn : n ≤ 6) (hf : ∀ k, k < n → 0 ≤ f k ∧ f k ≤ 60000) (hz : ∃ k, k < n ∧ f k = 0) : 4096 ≤ aS (fun k => sSha g (f k)) n ∧ aS (fun k => sSha g (f k)) n ≤ 6 * 4096 := by
  have h1 := aS_b (f := fun k => sSha g (f k)) (lo := 0) (hi := 4096) (n := n) (fun k hk => sSha_b hg (hf k hk).1)
  obtain ⟨k, hk, ek⟩ := hz
  have h2 := aS_ge (f := fun k => sSha g (f k)) (fun k hk => (sSha_b hg (hf k hk).1).1) hk
  simp only [ek, sSha_0] at h2
  omega
theorem sHiF_b {r : Int → Int} {up : Bool} {n : Int} (hB : rB r) {k : Nat} (hk : k < (r (176 + 14 * n + 1)).toNat) : 0 ≤ sHiF r up n k ∧ sHiF r up n k ≤ 60000 := by
  have h1 := sPin_b hB false up n k
  have h2 := aMx_ge (f := fun k : Nat => sPin r false up n k) (z := -100000000) hk
  obtain ⟨j, h3, h4⟩ := aMx_at (f := fun k : Nat => sPin r false up n k) (z := -100000000) (n := (r (176 + 14 * n + 1)).toNat) (by omega) (fun k _ => by have := sPin_b hB false up n k; omega)
  have h5 := sPin_b hB false up n j
  unfold sHiF sGr
  omega
theorem sLoF_b {r : Int → Int} {up : Bool} {n : Int} (hB : rB r) {k : Nat} (hk : k < (r (176 + 14 * n + 1)).toNat) : 0 ≤ sLoF r up n k ∧ sLoF r up n k ≤ 60000 := by
  have h1 := sPin_b hB false up n k
  have h2 := aMn_le (f := fun k : Nat => sPin r false up n k) (z := 100000000) hk
  obtain ⟨j, h3, h4⟩ := aMn_at (f := fun k : Nat => sPin r false up n k) (z := 100000000) (n := (r (176 + 14 * n + 1)).toNat) (by omega) (fun k _ => by have := sPin_b hB false up n k; omega)
  have h5 := sPin_b hB false up n j
  unfold sLoF sLe
  omega
theorem sHiF_0 {r : Int → Int} {up : Bool} {n : Int} (hB : rB r) (hn : 1 ≤ r (176 + 14 * n + 1)) : ∃ k, k < (r (176 + 14 * n + 1)).toNat ∧ sHiF r up n k = 0 := by
  obtain ⟨j, h3, h4⟩ := aMx_at (f := fun k : Nat => sPin r false up n k) (z := -100000000) (n := (r (176 + 14 * n + 1)).toNat) (by omega) (fun k _ => by have := sPin_b hB false up n k; omega)
  refine ⟨j, h3, ?_⟩
  unfold sHiF sGr
  omega
theorem sLoF_0 {r : Int → Int} {up : Bool} {n : Int} (hB : rB r) (hn : 1 ≤ r (176 + 14 * n + 1)) : ∃ k, k < (r (176 + 14 * n + 1)).toNat ∧ sLoF r up n k = 0 := by
  obtain ⟨j, h3, h4⟩ := aMn_at (f := fun k : Nat => sPin r false up n k) (z := 100000000) (n := (r (176 + 14 * n + 1)).toNat) (by omega) (fun k _ => by have := sPin_b hB false up n k; omega)
  refine ⟨j, h3, ?_⟩
  unfold sLoF sLe
  omega
section M23
variable {N : Nat} {h : ka_H} {a : Nat} {mf : Nat → Int} {ma : Nat → Int → Int}
theorem c_share {v : Int} (tm : tmOk (ma 1)) (hv : 0 ≤ v ∧ v ≤ 1000000) : fm_X9_share N [.ref a, .int (iI v)] (mH h a mf ma) = some (iI (sSha (ma 1 0) v), mH h a mf ma) := by
  have g := tm.1
  have h0 : 0 ≤ v / ma 1 0 := Int.ediv_nonneg hv.1 (by omega)
  have h1 : v / ma 1 0 ≤ v := Int.ediv_le_self _ hv.1
  rw [en_X9_share, eq_X9_share_0, m_r5, Option.bind_some, m_l5 (by omega) (by omega), Option.bind_some, if_neg (by rw [iI_eq ⟨by omega, by omega⟩ ⟨by omega, by omega⟩]; omega), iI_div ⟨by omega, by omega⟩ ⟨by omega, by omega⟩ (by omega), tdiv_nn hv.1]
  unfold sSha
  by_cases q : v / ma 1 0 ≤ 12
  · have := (sSha_13 ⟨(v / ma 1 0).toNat, by omega⟩).1
    simp only [show (((v / ma 1 0).toNat : Nat) : Int) = v / ma 1 0 by omega] at this
    rw [if_pos ((iI_le ⟨by omega, by omega⟩ ⟨by omega, by omega⟩).mpr q), if_pos q, eq_X9_share_24, this]
  · rw [if_neg (fun z => q ((iI_le ⟨by omega, by omega⟩ ⟨by omega, by omega⟩).mp z)), if_neg q, eq_X9_share_24]
theorem c_smoothBy {n : Int} {up : Bool} (hN : 5000 ≤ N) (ok : rOk (ma 2)) (nk : nOk (ma 2)) (tm : tmOk (ma 1)) (h0 : 0 ≤ n) (h1 : n < ma 2 3) : fm_X9_smoothBy N [.ref a, .int (iI n), .int (if up = true then iI 1 else iI 0)] (mH h a mf ma) = some (iI (sSmB (ma 1 0) (ma 2) up n), mH h a mf ma) := by
  obtain ⟨k1, k2⟩ := nk n h0 h1
  have g2 := ok.2.2.2.1
  have g3 := ok.2.2.2.2.1
  have d1 := c_lo (N := N) (h := h) (a := a) (mf := mf) (ma := ma) (sp := false) (up := up) hN ok nk h0 h1
  have d2 := c_hi (N := N) (h := h) (a := a) (mf := mf) (ma := ma) (sp := false) (up := up) hN ok nk h0 h1
  have cm := c_pinMany (N := N) (h := h) (a := a) (mf := mf) (ma := ma) (n := n) h0 (by omega)
  rw [show (if false = true then iI 1 else iI 0) = iI 0 from rfl] at d1 d2
  obtain ⟨e, he⟩ : ∃ e : Nat, ma 2 (176 + 14 * n + 1) = e := ⟨(ma 2 (176 + 14 * n + 1)).toNat, by omega⟩
  have en : (ma 2 (176 + 14 * n + 1)).toNat = e := by omega
  rw [en_X9_smoothBy, eq_X9_smoothBy_0, if_pos m_isc, d1, Option.bind_some]
  dsimp only
  rw [if_pos m_isc, d2, Option.bind_some]
  dsimp only
  have key := fix_up (B := cm_X9_smoothBy_32 N) (R := some (iI (sSmB (ma 1 0) (ma 2) up n), mH h a mf ma)) (fun i => [some (.ref a), some (.int (iI n)), some (.int (if up = true then iI 1 else iI 0)), some (.int (iI (sLe (ma 2) false up n))), some (.int (iI (sGr (ma 2) false up n))), some (.int (iI (aS (fun k => sHiF (ma 2) up n k * sSha (ma 1 0) (sHiF (ma 2) up n k)) i))), some (.int (iI (aS (fun k => sSha (ma 1 0) (sHiF (ma 2) up n k)) i))), some (.int (iI (aS (fun k => sLoF (ma 2) up n k * sSha (ma 1 0) (sLoF (ma 2) up n k)) i))), some (.int (iI (aS (fun k => sSha (ma 1 0) (sLoF (ma 2) up n k)) i))), some (.int (iI i))]) (fun _ => mH h a mf ma) e ?_ ?_ N 0 (by omega) (by omega)
  · exact key
  · intro K
    have x1 := sMF_num (g := ma 1 0) (f := sHiF (ma 2) up n) (n := e) tm.1.1 (by omega) (fun k hk => sHiF_b ok.1 (by omega))
    have x2 := sMF_den (g := ma 1 0) (f := sHiF (ma 2) up n) (n := e) tm.1.1 (by omega) (fun k hk => sHiF_b ok.1 (by omega)) (by rw [← en]; exact sHiF_0 ok.1 (by omega))
    have x3 := sMF_num (g := ma 1 0) (f := sLoF (ma 2) up n) (n := e) tm.1.1 (by omega) (fun k hk => sLoF_b ok.1 (by omega))
    have x4 := sMF_den (g := ma 1 0) (f := sLoF (ma 2) up n) (n := e) tm.1.1 (by omega) (fun k hk => sLoF_b ok.1 (by omega)) (by rw [← en]; exact sLoF_0 ok.1 (by omega))
    rw [eq_X9_smoothBy_32, if_pos m_isc, cm, Option.bind_some, he, if_pos ((iI_le ⟨by omega, by omega⟩ ⟨by omega, by omega⟩).mpr (Int.le_refl _)), if_neg (by rw [iI_eq ⟨by omega, by omega⟩ ⟨by omega, by omega⟩]; omega), if_neg (by rw [iI_eq ⟨by omega, by omega⟩ ⟨by omega, by omega⟩]; omega), iI_div ⟨by omega, by omega⟩ ⟨by omega, by omega⟩ (by omega), iI_div ⟨by omega, by omega⟩ ⟨by omega, by omega⟩ (by omega), tdiv_nn x1.1, tdiv_nn x3.1, iI_sub, iI_add, iI_sub]
    unfold sSmB sMF
    rw [en]
  · intro K i hi
    have ei : ((i + 1 : Nat) : Int) = (i : Int) + 1 := by omega
    have cp := c_pinIs (N := N) (h := h) (a := a) (mf := mf) (ma := ma) (n := n) (k := i) (sp := false) (up := up) ok.1 h0 (by omega) (by omega) (by omega) (fun z => by have := k2 i (by omega) (by omega) z; omega)
    rw [show (if false = true then iI 1 else iI 0) = iI 0 from rfl] at cp
    have y1 := sHiF_b (up := up) ok.1 (n := n) (k := i) (by omega)
    have y2 := sLoF_b (up := up) ok.1 (n := n) (k := i) (by omega)
    have s1 := c_share (N := N) (h := h) (a := a) (mf := mf) (ma := ma) (v := sHiF (ma 2) up n i) tm (by omega)
    have s2 := c_share (N := N) (h := h) (a := a) (mf := mf) (ma := ma) (v := sLoF (ma 2) up n i) tm (by omega)
    unfold sHiF at s1
    unfold sLoF at s2
    rw [eq_X9_smoothBy_32, if_pos m_isc, cm, Option.bind_some, he, if_neg (fun z => absurd ((iI_le ⟨by omega, by omega⟩ ⟨by omega, by omega⟩).mp z) (by omega)), if_pos m_isc, cp, Option.bind_some]
    dsimp only
    rw [if_pos m_isc, iI_sub, s1, Option.bind_some]
    dsimp only
    rw [if_pos m_isc, iI_sub, s2, Option.bind_some]
    dsimp only
    rw [eq_X9_smoothBy_100, iI_mul, iI_mul, iI_add, iI_add, iI_add, iI_add, iI_add, ei]
    rfl
theorem c_smooth {n : Int} (hN : 5000 ≤ N) (ok : rOk (ma 2)) (nk : nOk (ma 2)) (tm : tmOk (ma 1)) (h0 : 0 ≤ n) (h1 : n < ma 2 3) : fm_X9_smooth N [.ref a, .int (iI n)] (mH h a mf ma) = some (iI (sSm (ma 1 4) (ma 1 0) (ma 2) n), mH h a mf ma) := by
  have d1 := c_smoothBy (N := N) (h := h) (a := a) (mf := mf) (ma := ma) (up := false) hN ok nk tm h0 h1
  have d2 := c_smoothBy (N := N) (h := h) (a := a) (mf := mf) (ma := ma) (up := true) hN ok nk tm h0 h1
  rw [show (if false = true then iI 1 else iI 0) = iI 0 from rfl] at d1
  rw [show (if true = true then iI 1 else iI 0) = iI 1 from rfl] at d2
  rw [en_X9_smooth, eq_X9_smooth_0, if_pos m_isc, d1, Option.bind_some]
  dsimp only
  rw [m_r5, Option.bind_some, m_l5 (by omega) (by omega), Option.bind_some, if_pos m_isc, d2, Option.bind_some]
  dsimp only
  rw [iI_mul, iI_add]
  rfl
theorem c_smooths (hN : 5000 ≤ N) (ok : rOk (ma 2)) (nk : nOk (ma 2)) (tm : tmOk (ma 1)) : fm_X9_smooths N [.ref a] (mH h a mf ma) = some (iI (sSms (ma 1 4) (ma 1 0) (ma 2)), mH h a mf ma) := by
  have g3 := ok.2.2.2.2.1
  rw [en_X9_smooths, eq_X9_smooths_0]
  refine fix_up (fun i => [some (.ref a), some (.int (iI (aS (fun n => ma 2 (176 + 14 * n) * sSm (ma 1 4) (ma 1 0) (ma 2) n) i))), some (.int (iI i))]) (fun _ => mH h a mf ma) (ma 2 3).toNat ?_ ?_ N 0 (by omega) (by omega)
  · intro K
    rw [eq_X9_smooths_4, m_r6, Option.bind_some, m_l6 (by omega) (by omega), Option.bind_some, if_pos ((iI_le ⟨by omega, by omega⟩ ⟨by omega, by omega⟩).mpr (by omega))]
    rfl
  · intro K i hi
    rw [eq_X9_smooths_4, m_r6, Option.bind_some, m_l6 (by omega) (by omega), Option.bind_some, if_neg (fun q => by have := (iI_le ⟨by omega, by omega⟩ ⟨by omega, by omega⟩).mp q; omega), Option.bind_some, c_netAt, Option.bind_some]
    dsimp only
    rw [m_l6 (by omega) (by omega), Option.bind_some, if_pos m_isc, c_smooth hN ok nk tm (by omega) (by omega), Option.bind_some]
    dsimp only
    rw [iI_mul, iI_add, iI_add]
    rfl
end M23
