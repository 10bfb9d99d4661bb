/-! ===== the model: cells of a run, their least move ===== -/
def lSome (Q G : Int → Int) (k : Int) : Nat → List Int
  | 0 => []
  | i + 1 => if G (Q i) = k then lSome Q G k i ++ [Q i] else lSome Q G k i
theorem lSome_len (Q G : Int → Int) (k : Int) (n : Nat) : (lSome Q G k n).length ≤ n := by
  induction n with
  | zero => simp [lSome]
  | succ n ih =>
    rw [lSome]
    split
    · rw [List.length_append]
      simp only [List.length_cons, List.length_nil]
      omega
    · omega
/-- one more, if there is one -/
def lMore (l : List Int) (c : Int) : List Int := if c = -1 then l else l ++ [c]
def sDv (w : Int) (mv nx : Int → Int) (W s : Int) : Int := if s + w ≤ W then (if nx (s + w) = 100000000 then 100000000 else mv s + nx (s + w)) else 100000000
def sDd (w : Int) (mv nx : Int → Int) (W : Int) : Nat → Int
  | 0 => if sDv w mv nx W W ≤ 100000000 then sDv w mv nx W W else 100000000
  | d + 1 => if sDv w mv nx W (W - (d + 1)) ≤ sDd w mv nx W d then sDv w mv nx W (W - (d + 1)) else sDd w mv nx W d
/-- the least move of cells in a run of W sites from a site on, by where the first may begin -/
def sDP (r : Int → Int) (fi W : Int) : List Int → Int → Int
  | [] => fun _ => 0
  | c :: t => fun s => sDd (r (36 + 7 * c)) (fun s => sMvA r c (fi + s)) (sDP r fi W t) W (W - s).toNat
theorem sDd_b {w : Int} {mv nx : Int → Int} {W : Int} (h1 : ∀ s, 0 ≤ s → s ≤ W → 0 ≤ mv s) (h2 : ∀ s, 0 ≤ nx s) (d : Nat) (hd : (d : Int) ≤ W) : 0 ≤ sDd w mv nx W d ∧ sDd w mv nx W d ≤ 100000000 := by
  have hv : ∀ s, 0 ≤ s → s ≤ W → 0 ≤ sDv w mv nx W s := by
    intro s s0 s1
    have := h1 s s0 s1
    have := h2 (s + w)
    unfold sDv
    repeat' split
    all_goals omega
  induction d with
  | zero =>
    have := hv W (by omega) (by omega)
    rw [sDd]
    split <;> omega
  | succ d ih =>
    have := ih (by omega)
    have := hv (W - (d + 1)) (by omega) (by omega)
    rw [sDd]
    split <;> omega
theorem sFar_b (x y : Int) : 0 ≤ sFar x y := by
  unfold sFar
  split <;> omega
theorem sFar_l {x y M : Int} (h1 : 0 ≤ x ∧ x ≤ M) (h2 : -1 ≤ y ∧ y ≤ M) : sFar x y ≤ M + 1 := by
  unfold sFar
  split <;> omega
theorem sMvA_b {r : Int → Int} {c s : Int} (ok : rOk r) (h0 : 0 ≤ c) (h1 : c < r 2) : 0 ≤ sMvA r c s := by
  have w := ok.2.2.2.2.2 c h0 h1
  exact Int.mul_nonneg (by omega) (sFar_b _ _)
theorem sMvA_l {r : Int → Int} {c s : Int} (ok : rOk r) (h0 : 0 ≤ c) (h1 : c < r 2) (hs : 0 ≤ s ∧ s ≤ 1000) : sMvA r c s ≤ 96006 := by
  have w := ok.2.2.2.2.2 c h0 h1
  have b := ok.1 (36 + 7 * c + 3)
  exact (mul_b (x := r (36 + 7 * c)) (X := 6) (y := sFar (16 * s) (r (36 + 7 * c + 3))) (Y := 16001) (by omega) (by omega) (sFar_b _ _) (sFar_l (M := 16000) (by omega) (by omega))).2
theorem sDP_b {r : Int → Int} {fi W : Int} {l : List Int} (ok : rOk r) (hl : ∀ c, c ∈ l → 0 ≤ c ∧ c < r 2) (s : Int) (hW : 0 ≤ W) : 0 ≤ sDP r fi W l s := by
  induction l generalizing s with
  | nil => simp [sDP]
  | cons c t ih =>
    have hc := hl c (by simp)
    have ht := fun s => ih (fun c hc => hl c (by simp [hc])) s
    rw [sDP]
    by_cases e : (W - s).toNat ≤ W
    · exact (sDd_b (fun s _ _ => sMvA_b ok hc.1 hc.2) ht _ e).1
    · have : ∀ d : Nat, 0 ≤ sDd (r (36 + 7 * c)) (fun s => sMvA r c (fi + s)) (sDP r fi W t) W d := by
        have hv : ∀ s, 0 ≤ sDv (r (36 + 7 * c)) (fun s => sMvA r c (fi + s)) (sDP r fi W t) W s := by
          intro s
          have := sMvA_b (s := fi + s) ok hc.1 hc.2
          have := ht (s + r (36 + 7 * c))
          unfold sDv
          dsimp only
          repeat' split
          all_goals omega
        intro d
        induction d with
        | zero =>
          have := hv W
          rw [sDd]
          split <;> omega
        | succ d ih2 =>
          have := hv (W - (d + 1))
          rw [sDd]
          split <;> omega
      exact this _
theorem sDP_l {r : Int → Int} {fi W : Int} {l : List Int} (ok : rOk r) (hl : ∀ c, c ∈ l → 0 ≤ c ∧ c < r 2) (s : Int) (h0 : 0 ≤ s) (h1 : s ≤ W) : sDP r fi W l s ≤ 100000000 := by
  cases l with
  | nil => simp [sDP]
  | cons c t =>
    have hc := hl c (by simp)
    exact (sDd_b (fun s _ _ => sMvA_b ok hc.1 hc.2) (fun s => sDP_b ok (fun c hc => hl c (by simp [hc])) s (by omega)) _ (by omega)).2
section M34
variable {N : Nat} {h : ka_H} {a : Nat} {mf : Nat → Int} {ma : Nat → Int → Int}
theorem c_laySome {k m : Int} (n : Nat) (hN : 5000 ≤ N) (hn : n ≤ 20) (hQ : ∀ i : Nat, i < n → 0 ≤ ma 13 i ∧ ma 13 i < 20) (hG : ∀ i : Nat, i < n → -1 ≤ ma 14 (ma 13 i) ∧ ma 14 (ma 13 i) ≤ 600) (hk : -1 ≤ k ∧ k ≤ 600) (hm : -1 ≤ m ∧ m ≤ 600) :
    fm_X9_laySome N [.ref a, .int (iI k), .int (iI n), .int (iI m)] (mH h a mf ma) = some (mH h a (mF mf 25 (lMore (lSome (ma 13) (ma 14) k n) m).length) (mA ma 15 (rList (lMore (lSome (ma 13) (ma 14) k n) m) (ma 15)))) := by
  rw [en_X9_laySome, eq_X9_laySome_0, m_p25, Option.bind_some]
  have key := fix_up (B := cm_X9_laySome_8 N) (R := some (mH h a (mF mf 25 (lMore (lSome (ma 13) (ma 14) k n) m).length) (mA ma 15 (rList (lMore (lSome (ma 13) (ma 14) k n) m) (ma 15))))) (fun i => [some (.ref a), some (.int (iI k)), some (.int (iI n)), some (.int (iI m)), some (.int (iI i))]) (fun i => mH h a (mF mf 25 (lSome (ma 13) (ma 14) k i).length) (mA ma 15 (rList (lSome (ma 13) (ma 14) k i) (ma 15)))) n ?_ ?_ N 0 (by omega) (by omega)
  · simp only [lSome, List.length_nil, rList_nil, mA_self, Int.natCast_zero] at key
    exact key
  · intro K
    have ll := lSome_len (ma 13) (ma 14) k n
    rw [eq_X9_laySome_8, if_pos ((iI_le ⟨by omega, by omega⟩ ⟨by omega, by omega⟩).mpr (Int.le_refl _))]
    unfold lMore
    by_cases q : m = -1
    · rw [if_pos (by rw [q]), if_pos q, eq_X9_laySome_87]
    · rw [if_neg (by rw [iI_eq ⟨by omega, by omega⟩ ⟨by omega, by omega⟩]; exact q), if_neg q, m_r24, Option.bind_some, m_g25, Option.bind_some, mF_s, m_s24 (by omega) (by omega), Option.bind_some, mU_mA, mA_2, mA_mA, rList_app, m_g25, Option.bind_some, mF_s, iI_add, m_p25, Option.bind_some, eq_X9_laySome_87, List.length_append]
      simp only [List.length_cons, List.length_nil]
      congr 2
      funext j
      by_cases ej : j = 25 <;> simp [mF, ej]
  · intro K i hi
    have ei : ((i + 1 : Nat) : Int) = (i : Int) + 1 := by omega
    have ll := lSome_len (ma 13) (ma 14) k i
    have b1 := hQ i hi
    have b2 := hG i hi
    rw [eq_X9_laySome_8, if_neg (fun q => by have := (iI_le ⟨by omega, by omega⟩ ⟨by omega, by omega⟩).mp q; omega), m_r23, Option.bind_some, m_r21, Option.bind_some, m_l21 (by omega) (by omega), Option.bind_some, mA_n (by decide), m_l23 (by omega) (by omega), Option.bind_some, mA_n (by decide), lSome, ei]
    by_cases q : ma 14 (ma 13 i) = k
    · rw [if_neg (fun z => z (by rw [q])), if_pos q, m_r24, Option.bind_some, m_g25, Option.bind_some, mF_s, Option.bind_some, m_l21 (by omega) (by omega), Option.bind_some, mA_n (by decide), m_s24 (by omega) (by omega), Option.bind_some, mU_mA, mA_2, mA_mA, rList_app, m_g25, Option.bind_some, mF_s, iI_add, m_p25, Option.bind_some, eq_X9_laySome_56, iI_add, List.length_append]
      simp only [List.length_cons, List.length_nil]
      congr 2
      funext j
      by_cases ej : j = 25 <;> simp [mF, ej]
    · rw [if_pos (by rw [iI_eq ⟨by omega, by omega⟩ ⟨by omega, by omega⟩]; exact q), if_neg q, eq_X9_laySome_56, iI_add]
theorem c_someWidth (hN : 5000 ≤ N) (h25 : 0 ≤ mf 25 ∧ mf 25 ≤ 21) (hs : ∀ i, 0 ≤ i → i < mf 25 → 0 ≤ ma 15 i ∧ ma 15 i < 20) : fm_X9_someWidth N [.ref a] (mH h a mf ma) = some (iI (aS (fun i => ma 2 (36 + 7 * ma 15 i)) (mf 25).toNat), mH h a mf ma) := by
  rw [en_X9_someWidth, eq_X9_someWidth_0]
  refine fix_up (fun i => [some (.ref a), some (.int (iI (aS (fun i => ma 2 (36 + 7 * ma 15 i)) i))), some (.int (iI i))]) (fun _ => mH h a mf ma) (mf 25).toNat ?_ ?_ N 0 (by omega) (by omega)
  · intro K
    rw [eq_X9_someWidth_4, m_g25, Option.bind_some, if_pos ((iI_le ⟨by omega, by omega⟩ ⟨by omega, by omega⟩).mpr (by omega))]
  · intro K i hi
    have ei : ((i + 1 : Nat) : Int) = (i : Int) + 1 := by omega
    have b := hs i (by omega) (by omega)
    rw [eq_X9_someWidth_4, m_g25, Option.bind_some, if_neg (fun q => by have := (iI_le ⟨by omega, by omega⟩ ⟨by omega, by omega⟩).mp q; omega), m_r24, Option.bind_some, m_l24 (by omega) (by omega), Option.bind_some, if_pos m_isc, c_width b.1 b.2, Option.bind_some, aS, ei]
    dsimp only
    rw [iI_add, iI_add]
/-- a level of the table -/
theorem c_least57 {k : Int} (K42 : ka_K (Int32 × ka_H)) (l : List Int) (j : Nat) (g0 : Int → Int) (hN : 5000 ≤ N) (ok : rOk (ma 2)) (hk : 0 ≤ k ∧ k < 256) (h10 : 0 ≤ ma 10 k ∧ ma 10 k ≤ 600) (W : Nat) (hW : W ≤ 32) (hl : ∀ c, c ∈ l → 0 ≤ c ∧ c < ma 2 2) (hn : l.length ≤ 20) (hj : j < l.length)
    (hg : ∀ i : Nat, j + 1 ≤ i → i ≤ l.length → ∀ s : Int, 0 ≤ s → s ≤ W → g0 (33 * i + s) = sDP (ma 2) (ma 10 k) W (l.drop i) s) :
    ∃ g, (∀ i : Nat, j ≤ i → i ≤ l.length → ∀ s : Int, 0 ≤ s → s ≤ W → g (33 * i + s) = sDP (ma 2) (ma 10 k) W (l.drop i) s) ∧ ki_fix (cm_X9_leastIn_57 N K42) N [some (.ref a), some (.int (iI k)), some (.int (iI W)), some (.int (iI j)), some (.int (iI l[j])), some (.int (iI W))] [] (mH h a mf (mA ma 16 g0)) = K42 [some (.ref a), some (.int (iI k)), some (.int (iI W)), some (.int (iI ((j : Int) - 1)))] [] (mH h a mf (mA ma 16 g)) := by
  have g2 := ok.2.2.2.1
  have hc := hl l[j] (List.getElem_mem hj)
  have hw := ok.2.2.2.2.2 l[j] hc.1 hc.2
  have ed : l.drop j = l[j] :: l.drop (j + 1) := List.drop_eq_getElem_cons hj
  have hlt : ∀ c, c ∈ l.drop (j + 1) → 0 ≤ c ∧ c < ma 2 2 := fun c z => hl c (List.mem_of_mem_drop z)
  have hlj : ∀ c, c ∈ l.drop j → 0 ≤ c ∧ c < ma 2 2 := fun c z => hl c (List.mem_of_mem_drop z)
  have key := fix_ms (B := cm_X9_leastIn_57 N K42) (fun x : Nat × (Int → Int) => [some (.ref a), some (.int (iI k)), some (.int (iI W)), some (.int (iI j)), some (.int (iI l[j])), some (.int (iI ((x.1 : Int) - 1)))]) (fun x => mH h a mf (mA ma 16 x.2)) (fun x => x.1 ≤ W + 1 ∧ (∀ i : Nat, j + 1 ≤ i → i ≤ l.length → ∀ s : Int, 0 ≤ s → s ≤ W → x.2 (33 * i + s) = sDP (ma 2) (ma 10 k) W (l.drop i) s) ∧ ∀ s : Int, (x.1 : Int) ≤ s → s ≤ W → x.2 (33 * j + s) = sDP (ma 2) (ma 10 k) W (l.drop j) s) (fun x => x.1) (fun x => ∃ g, (∀ i : Nat, j ≤ i → i ≤ l.length → ∀ s : Int, 0 ≤ s → s ≤ W → g (33 * i + s) = sDP (ma 2) (ma 10 k) W (l.drop i) s) ∧ x = K42 [some (.ref a), some (.int (iI k)), some (.int (iI W)), some (.int (iI ((j : Int) - 1)))] [] (mH h a mf (mA ma 16 g))) ?_ N (W + 1, g0) ⟨by omega, hg, fun s s0 s1 => by omega⟩ (by dsimp only; omega)
  · have e : (((W + 1 : Nat) : Int) - 1) = W := by omega
    simp only [e] at key
    exact key
  · rintro K ⟨d, g⟩ ⟨p1, p2, p3⟩
    dsimp only at p1 p2 p3 ⊢
    cases d with
    | zero =>
      left
      refine ⟨g, ?_, ?_⟩
      · intro i hi1 hi2 s s0 s1
        by_cases e : i = j
        · subst e
          exact p3 s (by omega) s1
        · exact p2 i (by omega) hi2 s s0 s1
      · rw [eq_X9_leastIn_57, if_pos ((iI_lt ⟨by omega, by omega⟩ ⟨by omega, by omega⟩).mpr (by omega)), iI_add]
        rfl
    | succ d =>
      right
      have es : (((d + 1 : Nat) : Int) - 1) = d := by omega
      rw [es]
      have val : sDP (ma 2) (ma 10 k) W (l.drop j) d = sDd (ma 2 (36 + 7 * l[j])) (fun s => sMvA (ma 2) l[j] (ma 10 k + s)) (sDP (ma 2) (ma 10 k) W (l.drop (j + 1))) W (W - d) := by
        rw [ed, sDP]
        dsimp only
        rw [show ((W : Int) - (d : Int)).toNat = W - d by omega]
      refine ⟨(d, rU g (33 * j + d) (sDP (ma 2) (ma 10 k) W (l.drop j) d)), ⟨by dsimp only; omega, ?_, ?_⟩, by dsimp only; omega, ?_⟩
      · intro i hi1 hi2 s s0 s1
        dsimp only
        rw [rU_n (by omega)]
        exact p2 i hi1 hi2 s s0 s1
      · intro s s0 s1
        dsimp only at s0 ⊢
        by_cases e : s = d
        · subst e
          rw [rU_s]
        · rw [rU_n (by omega)]
          exact p3 s (by omega) s1
      · have fin : ∀ v lt : Int, -1 ≤ v → v ≤ 200000000 → -1 ≤ lt → lt ≤ 200000000 → cm_X9_leastIn_159 N K42 K [some (.ref a), some (.int (iI k)), some (.int (iI W)), some (.int (iI j)), some (.int (iI l[j])), some (.int (iI d)), some (.int (iI v))] [.int (iI lt)] (mH h a mf (mA ma 16 g)) = K [some (.ref a), some (.int (iI k)), some (.int (iI W)), some (.int (iI j)), some (.int (iI l[j])), some (.int (iI ((d : Int) - 1)))] [] (mH h a mf (mA ma 16 (rU g (33 * j + d) (if v ≤ lt then v else lt)))) := by
          intro v lt v0 v1 l0 l1
          rw [eq_X9_leastIn_159, m_r26, Option.bind_some, eq_X9_leastIn_186, eq_X9_leastIn_186, iI_mul, iI_add, m_s26 (by omega) (by omega), Option.bind_some, m_s26 (by omega) (by omega), Option.bind_some, mU_mA, mU_mA, mA_2, mA_mA, mA_mA, iI_add]
          by_cases q : v ≤ lt
          · rw [if_pos ((iI_le ⟨by omega, by omega⟩ ⟨by omega, by omega⟩).mpr q), if_pos q]
            rfl
          · rw [if_neg (fun z => q ((iI_le ⟨by omega, by omega⟩ ⟨by omega, by omega⟩).mp z)), if_neg q]
            rfl
        have fin2 : ∀ v : Int, v = sDv (ma 2 (36 + 7 * l[j])) (fun s => sMvA (ma 2) l[j] (ma 10 k + s)) (sDP (ma 2) (ma 10 k) W (l.drop (j + 1))) W d → -1 ≤ v → v ≤ 200000000 → cm_X9_leastIn_134 N K42 K [some (.ref a), some (.int (iI k)), some (.int (iI W)), some (.int (iI j)), some (.int (iI l[j])), some (.int (iI d)), some (.int (iI v))] [] (mH h a mf (mA ma 16 g)) = K [some (.ref a), some (.int (iI k)), some (.int (iI W)), some (.int (iI j)), some (.int (iI l[j])), some (.int (iI ((d : Int) - 1)))] [] (mH h a mf (mA ma 16 (rU g (33 * j + d) (sDP (ma 2) (ma 10 k) W (l.drop j) d)))) := by
          intro v ev v0 v1
          rw [eq_X9_leastIn_134]
          by_cases q : d = W
          · rw [if_pos ((iI_le ⟨by omega, by omega⟩ ⟨by omega, by omega⟩).mpr (by omega)), fin v 100000000 v0 v1 (by omega) (by omega), val, show W - d = 0 by omega, sDd, ev, q]
          · have nx := p3 (d + 1) (by omega) (by omega)
            have b0 := sDP_b (fi := ma 10 k) (W := W) ok hlj (d + 1) (by omega)
            have b1 := sDP_l (fi := ma 10 k) (W := W) ok hlj (d + 1) (by omega) (by omega)
            rw [if_neg (fun z => by have := (iI_le ⟨by omega, by omega⟩ ⟨by omega, by omega⟩).mp z; omega), m_r26, Option.bind_some, iI_mul, iI_add, iI_add, m_l26 (by omega) (by omega), Option.bind_some, mA_2, Int.add_assoc, nx, fin v _ v0 v1 (by omega) (by omega), val]
            obtain ⟨e, he⟩ : ∃ e : Nat, W - d = e + 1 := ⟨W - d - 1, by omega⟩
            have vn : sDP (ma 2) (ma 10 k) W (l.drop j) (d + 1) = sDd (ma 2 (36 + 7 * l[j])) (fun s => sMvA (ma 2) l[j] (ma 10 k + s)) (sDP (ma 2) (ma 10 k) W (l.drop (j + 1))) W e := by
              rw [ed, sDP]
              dsimp only
              rw [show ((W : Int) - ((d : Int) + 1)).toNat = e by omega]
            rw [he, sDd, vn, ev, show (W : Int) - ((e : Int) + 1) = d by omega]
        have cw := c_width (N := N) (h := h) (a := a) (mf := mf) (ma := mA ma 16 g) (c := l[j]) hc.1 (by omega)
        rw [mA_n (by decide)] at cw
        rw [eq_X9_leastIn_57, if_neg (fun z => by have := (iI_lt ⟨by omega, by omega⟩ ⟨by omega, by omega⟩).mp z; omega), if_pos m_isc, cw, Option.bind_some]
        dsimp only
        rw [iI_add]
        by_cases q : (d : Int) + ma 2 (36 + 7 * l[j]) ≤ W
        · have rest := p2 (j + 1) (by omega) (by omega) (d + ma 2 (36 + 7 * l[j])) (by omega) q
          have b0 := sDP_b (fi := ma 10 k) (W := W) ok hlt (d + ma 2 (36 + 7 * l[j])) (by omega)
          have b1 := sDP_l (fi := ma 10 k) (W := W) ok hlt (d + ma 2 (36 + 7 * l[j])) (by omega) q
          have e33 : 33 * ((j : Int) + 1) + (d : Int) + ma 2 (36 + 7 * l[j]) = 33 * ((j + 1 : Nat) : Int) + (d + ma 2 (36 + 7 * l[j])) := by omega
          rw [if_neg (fun z => by have := (iI_lt ⟨by omega, by omega⟩ ⟨by omega, by omega⟩).mp z; omega), m_r26, Option.bind_some, if_pos m_isc, cw, Option.bind_some]
          dsimp only
          rw [iI_add, iI_mul, iI_add, iI_add, m_l26 (by omega) (by omega), Option.bind_some, mA_2, e33, rest]
          by_cases q2 : sDP (ma 2) (ma 10 k) W (l.drop (j + 1)) (d + ma 2 (36 + 7 * l[j])) = 100000000
          · rw [if_neg (fun z => z (by rw [q2])), eq_X9_leastIn_132, fin2 100000000 (by unfold sDv; rw [if_pos q, if_pos q2]) (by omega) (by omega)]
          · have m0 := sMvA_b (s := ma 10 k + d) ok hc.1 hc.2
            have m1 := sMvA_l (s := ma 10 k + d) ok hc.1 hc.2 (by omega)
            have cv := c_moveAt (N := N) (h := h) (a := a) (mf := mf) (ma := mA ma 16 g) (c := l[j]) (s := ma 10 k + d) (by rw [mA_n (by decide)]; exact ok) (by omega) (by omega)
            rw [mA_n (by decide)] at cv
            rw [if_pos (by rw [iI_eq ⟨by omega, by omega⟩ ⟨by omega, by omega⟩]; exact q2), m_r16, Option.bind_some, m_l16 (by omega) (by omega), Option.bind_some, mA_n (by decide), if_pos m_isc, iI_add, cv, Option.bind_some]
            dsimp only
            rw [iI_add, eq_X9_leastIn_132, fin2 _ (by unfold sDv; rw [if_pos q, if_neg q2]) (by omega) (by omega)]
        · rw [if_pos ((iI_lt ⟨by omega, by omega⟩ ⟨by omega, by omega⟩).mpr (by omega)), fin2 100000000 (by unfold sDv; rw [if_neg q]) (by omega) (by omega)]
theorem c_leastIn {k : Int} (l : List Int) (hN : 5000 ≤ N) (ok : rOk (ma 2)) (hk : 0 ≤ k ∧ k < 256) (h10 : 0 ≤ ma 10 k ∧ ma 10 k ≤ 600) (h11 : 0 ≤ ma 11 k ∧ ma 11 k ≤ 32) (hl : ∀ c, c ∈ l → 0 ≤ c ∧ c < ma 2 2) (hn : l.length ≤ 20) (h25 : mf 25 = l.length) (h15 : ∀ i : Nat, (hi : i < l.length) → ma 15 i = l[i]) :
    ∃ g, (∀ i : Nat, i ≤ l.length → ∀ s : Int, 0 ≤ s → s ≤ ma 11 k → g (33 * i + s) = sDP (ma 2) (ma 10 k) (ma 11 k) (l.drop i) s) ∧ fm_X9_leastIn N [.ref a, .int (iI k)] (mH h a mf ma) = some (iI (sDP (ma 2) (ma 10 k) (ma 11 k) l 0), mH h a mf (mA ma 16 g)) := by
  obtain ⟨W, hW⟩ : ∃ W : Nat, ma 11 k = W := ⟨(ma 11 k).toNat, by omega⟩
  rw [en_X9_leastIn, eq_X9_leastIn_0, m_r17, Option.bind_some, m_l17 (by omega) (by omega), Option.bind_some, hW]
  have h42 : ∀ g0 : Int → Int, (∀ i : Nat, l.length ≤ i → i ≤ l.length → ∀ s : Int, 0 ≤ s → s ≤ W → g0 (33 * i + s) = sDP (ma 2) (ma 10 k) W (l.drop i) s) → ∃ g, (∀ i : Nat, i ≤ l.length → ∀ s : Int, 0 ≤ s → s ≤ W → g (33 * i + s) = sDP (ma 2) (ma 10 k) W (l.drop i) s) ∧ ki_fix (cm_X9_leastIn_42 N) N [some (.ref a), some (.int (iI k)), some (.int (iI W)), some (.int (iI ((l.length : Int) - 1)))] [] (mH h a mf (mA ma 16 g0)) = some (iI (sDP (ma 2) (ma 10 k) W l 0), mH h a mf (mA ma 16 g)) := by
    intro g0 hg0
    refine fix_ms (B := cm_X9_leastIn_42 N) (fun x : Nat × (Int → Int) => [some (.ref a), some (.int (iI k)), some (.int (iI W)), some (.int (iI ((x.1 : Int) - 1)))]) (fun x => mH h a mf (mA ma 16 x.2)) (fun x => x.1 ≤ l.length ∧ ∀ i : Nat, x.1 ≤ i → i ≤ l.length → ∀ s : Int, 0 ≤ s → s ≤ W → x.2 (33 * i + s) = sDP (ma 2) (ma 10 k) W (l.drop i) s) (fun x => x.1) (fun x => ∃ g, (∀ i : Nat, i ≤ l.length → ∀ s : Int, 0 ≤ s → s ≤ W → g (33 * i + s) = sDP (ma 2) (ma 10 k) W (l.drop i) s) ∧ x = some (iI (sDP (ma 2) (ma 10 k) W l 0), mH h a mf (mA ma 16 g))) ?_ N (l.length, g0) ⟨by dsimp only; omega, hg0⟩ (by dsimp only; omega)
    rintro K ⟨j, g⟩ ⟨p1, p2⟩
    dsimp only at p1 p2 ⊢
    cases j with
    | zero =>
      left
      refine ⟨g, fun i hi s s0 s1 => p2 i (by omega) hi s s0 s1, ?_⟩
      have e := p2 0 (by omega) (by omega) 0 (by omega) (by omega)
      simp only [Int.natCast_zero, Int.mul_zero, Int.add_zero, List.drop_zero] at e
      rw [eq_X9_leastIn_42, if_pos ((iI_lt ⟨by omega, by omega⟩ ⟨by omega, by omega⟩).mpr (by omega)), m_r26, Option.bind_some, m_l26 (by omega) (by omega), Option.bind_some, mA_2, e]
    | succ j =>
      right
      obtain ⟨g', x1, x2⟩ := c_least57 (h := h) (a := a) (mf := mf) (k := k) K l j g hN ok hk h10 W (by omega) hl hn (by omega) (fun i i1 i2 => p2 i i1 i2)
      refine ⟨(j, g'), ⟨by dsimp only; omega, fun i i1 i2 => x1 i i1 i2⟩, by dsimp only; omega, ?_⟩
      dsimp only
      have ej : (((j + 1 : Nat) : Int) - 1) = j := by omega
      rw [ej, ← x2, eq_X9_leastIn_42, if_neg (fun z => by have := (iI_lt ⟨by omega, by omega⟩ ⟨by omega, by omega⟩).mp z; omega), m_r24, Option.bind_some, m_l24 (by omega) (by omega), Option.bind_some, mA_n (by decide), h15 j (by omega)]
  obtain ⟨g, x1, x2⟩ := h42 (rCp (fun _ => 0) (ma 16) 0 (33 * l.length) (W + 1)) (by
    intro i i1 i2 s s0 s1
    have e : i = l.length := by omega
    subst e
    rw [List.drop_length, sDP]
    unfold rCp
    rw [if_pos (by omega)])
  refine ⟨g, x1, ?_⟩
  rw [← x2]
  have key := fix_up (B := cm_X9_leastIn_9 N) (R := ki_fix (cm_X9_leastIn_42 N) N [some (.ref a), some (.int (iI k)), some (.int (iI W)), some (.int (iI ((l.length : Int) - 1)))] [] (mH h a mf (mA ma 16 (rCp (fun _ => 0) (ma 16) 0 (33 * l.length) (W + 1))))) (fun i => [some (.ref a), some (.int (iI k)), some (.int (iI W)), some (.int (iI i))]) (fun i => mH h a mf (mA ma 16 (rCp (fun _ => 0) (ma 16) 0 (33 * l.length) i))) (W + 1) ?_ ?_ N 0 (by omega) (by omega)
  · simp only [Int.natCast_zero, rCp_0, mA_self] at key
    exact key
  · intro K
    rw [eq_X9_leastIn_9, if_pos ((iI_lt ⟨by omega, by omega⟩ ⟨by omega, by omega⟩).mpr (by omega)), m_g25, Option.bind_some, h25, iI_sub]
    rfl
  · intro K i hi
    have ei : ((i + 1 : Nat) : Int) = (i : Int) + 1 := by omega
    have es := rCp_s (fun _ => 0) (ma 16) 0 (33 * l.length) i (by omega)
    rw [eq_X9_leastIn_9, if_neg (fun z => by have := (iI_lt ⟨by omega, by omega⟩ ⟨by omega, by omega⟩).mp z; omega), m_r26, Option.bind_some, m_g25, Option.bind_some, h25, iI_mul, iI_add, m_s26 (by omega) (by omega), Option.bind_some, mU_mA, mA_2, mA_mA, es, iI_add, ei]
end M34
