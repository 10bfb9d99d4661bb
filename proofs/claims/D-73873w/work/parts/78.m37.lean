/-! ===== the model: cells placed in a run ===== -/
theorem sDd_le {w : Int} {mv nx : Int → Int} {W : Int} {d e : Nat} (h : e ≤ d) : sDd w mv nx W d ≤ sDv w mv nx W (W - e) := by
  induction d with
  | zero =>
    have : e = 0 := by omega
    subst this
    rw [sDd, show W - ((0 : Nat) : Int) = W by omega]
    split <;> omega
  | succ d ih =>
    rw [sDd]
    by_cases q : e = d + 1
    · subst q
      rw [show W - ((d + 1 : Nat) : Int) = W - ((d : Int) + 1) by omega]
      split <;> omega
    · have := ih (by omega)
      split <;> omega
theorem sDd_at {w : Int} {mv nx : Int → Int} {W : Int} (d : Nat) : sDd w mv nx W d = 100000000 ∨ ∃ e : Nat, e ≤ d ∧ sDd w mv nx W d = sDv w mv nx W (W - e) := by
  induction d with
  | zero =>
    rw [sDd]
    split
    · right
      exact ⟨0, by omega, by rw [show W - ((0 : Nat) : Int) = W by omega]⟩
    · left; rfl
  | succ d ih =>
    rw [sDd]
    split
    · right
      exact ⟨d + 1, by omega, by rw [show W - ((d + 1 : Nat) : Int) = W - ((d : Int) + 1) by omega]⟩
    · rcases ih with h | ⟨e, h1, h2⟩
      · left; exact h
      · right
        exact ⟨e, by omega, h2⟩
theorem sDd_far {w : Int} {mv nx : Int → Int} {W : Int} (d : Nat) (h : ∀ e : Nat, e ≤ d → sDv w mv nx W (W - e) = 100000000) : sDd w mv nx W d = 100000000 := by
  rcases sDd_at (w := w) (mv := mv) (nx := nx) (W := W) d with z | ⟨e, h1, h2⟩
  · exact z
  · rw [h2, h e h1]
theorem sW_nn {r : Int → Int} {l : List Int} (hw : ∀ c, c ∈ l → 1 ≤ r (36 + 7 * c)) : (l.length : Int) ≤ sW r l := by
  induction l with
  | nil => simp [sW]
  | cons c t ih =>
    rw [sW_cons]
    have := ih (fun d hd => hw d (by simp [hd]))
    have := hw c (by simp)
    simp only [List.length_cons]
    omega
/-- with room the least is small; without room there is none -/
theorem sDP_fit {r : Int → Int} {fi W : Int} {l : List Int} (ok : rOk r) (hl : ∀ c, c ∈ l → 0 ≤ c ∧ c < r 2) (hf : 0 ≤ fi ∧ fi ≤ 600) (hW : W ≤ 32) (s : Int) (h0 : 0 ≤ s) (h1 : s + sW r l ≤ W) : sDP r fi W l s ≤ 96006 * l.length := by
  induction l generalizing s with
  | nil => simp [sDP]
  | cons c t ih =>
    have hc := hl c (by simp)
    have ht : ∀ d, d ∈ t → 0 ≤ d ∧ d < r 2 := fun d hd => hl d (by simp [hd])
    have hw := ok.2.2.2.2.2 c hc.1 hc.2
    have hn := sW_nn (r := r) (l := t) (fun d hd => by have := ht d hd; exact (ok.2.2.2.2.2 d this.1 this.2).1)
    rw [sW_cons] at h1
    rw [sDP]
    dsimp only
    have i1 := ih ht (s + r (36 + 7 * c)) (by omega) (by omega)
    have lt : (t.length : Int) ≤ 32 := by omega
    have e := sDd_le (w := r (36 + 7 * c)) (mv := fun s => sMvA r c (fi + s)) (nx := sDP r fi W t) (W := W) (d := (W - s).toNat) (e := (W - s).toNat) (by omega)
    rw [show W - (((W - s).toNat : Nat) : Int) = s by omega] at e
    have m1 := sMvA_l (s := fi + s) ok hc.1 hc.2 (by omega)
    have ev : sDv (r (36 + 7 * c)) (fun s => sMvA r c (fi + s)) (sDP r fi W t) W s = sMvA r c (fi + s) + sDP r fi W t (s + r (36 + 7 * c)) := by
      unfold sDv
      rw [if_pos (by omega), if_neg (by omega)]
    rw [ev] at e
    simp only [List.length_cons]
    omega
theorem sDP_far {r : Int → Int} {fi W : Int} {l : List Int} (ok : rOk r) (hl : ∀ c, c ∈ l → 0 ≤ c ∧ c < r 2) (s : Int) (h0 : 0 ≤ s) (hs : s ≤ W) (h1 : W < s + sW r l) : sDP r fi W l s = 100000000 := by
  induction l generalizing s with
  | nil =>
    rw [sW_nil] at h1
    omega
  | cons c t ih =>
    have hc := hl c (by simp)
    have ht : ∀ d, d ∈ t → 0 ≤ d ∧ d < r 2 := fun d hd => hl d (by simp [hd])
    have hw := ok.2.2.2.2.2 c hc.1 hc.2
    rw [sW_cons] at h1
    rw [sDP]
    dsimp only
    refine sDd_far _ (fun e he => ?_)
    unfold sDv
    by_cases q : W - e + r (36 + 7 * c) ≤ W
    · rw [if_pos q, if_pos (ih ht _ (by omega) (by omega) (by omega))]
    · rw [if_neg q]
/-- the first place with the value that is due -/
def sPos (w W v : Int) (mv nx : Int → Int) : Nat → Int → Int
  | 0, s => s
  | n + 1, s => if s + w ≤ W ∧ mv s + nx (s + w) = v then s else sPos w W v mv nx n (s + 1)
theorem sPos_ok {w W v : Int} {mv nx : Int → Int} (n : Nat) (s s' : Int) (h1 : s ≤ s') (h2 : s' ≤ s + n) (h3 : s' + w ≤ W ∧ mv s' + nx (s' + w) = v) : (sPos w W v mv nx n s + w ≤ W ∧ mv (sPos w W v mv nx n s) + nx (sPos w W v mv nx n s + w) = v) ∧ s ≤ sPos w W v mv nx n s ∧ ∀ z, s ≤ z → z < sPos w W v mv nx n s → ¬ (z + w ≤ W ∧ mv z + nx (z + w) = v) := by
  induction n generalizing s with
  | zero =>
    have : s' = s := by omega
    subst this
    rw [sPos]
    exact ⟨h3, by omega, fun z z1 z2 => by omega⟩
  | succ n ih =>
    rw [sPos]
    split
    · next q => exact ⟨q, by omega, fun z z1 z2 => by omega⟩
    · next q =>
      have hne : s ≠ s' := by
        intro e
        subst e
        exact q h3
      obtain ⟨i1, i2, i3⟩ := ih (s + 1) (by omega) (by omega)
      refine ⟨i1, by omega, fun z z1 z2 => ?_⟩
      by_cases e : z = s
      · subst e; exact q
      · exact i3 z (by omega) z2
/-- cells in a run by the least move, from a site on -/
def sPlc (r : Int → Int) (fi W : Int) (c : Int) (t : List Int) (s : Int) : Int := sPos (r (36 + 7 * c)) W (sDP r fi W (c :: t) s) (fun s => sMvA r c (fi + s)) (sDP r fi W t) (W - s).toNat s
def rPl (r : Int → Int) (fi W R : Int) : List Int → Int → (Int → Int) → Int → Int
  | [], _, q => q
  | c :: t, s, q => rPl r fi W R t (sPlc r fi W c t s + r (36 + 7 * c)) (rGive q c R (fi + sPlc r fi W c t s))
theorem sPlc_ok {r : Int → Int} {fi W c : Int} {t : List Int} (ok : rOk r) (hl : ∀ d, d ∈ c :: t → 0 ≤ d ∧ d < r 2) (hf : 0 ≤ fi ∧ fi ≤ 600) (hW : W ≤ 32) (s : Int) (h0 : 0 ≤ s) (h1 : s + sW r (c :: t) ≤ W) :
    (sPlc r fi W c t s + r (36 + 7 * c) ≤ W ∧ sMvA r c (fi + sPlc r fi W c t s) + sDP r fi W t (sPlc r fi W c t s + r (36 + 7 * c)) = sDP r fi W (c :: t) s) ∧ s ≤ sPlc r fi W c t s ∧ (∀ z, s ≤ z → z < sPlc r fi W c t s → ¬ (z + r (36 + 7 * c) ≤ W ∧ sMvA r c (fi + z) + sDP r fi W t (z + r (36 + 7 * c)) = sDP r fi W (c :: t) s)) ∧ sPlc r fi W c t s + r (36 + 7 * c) + sW r t ≤ W := by
  have hc := hl c (by simp)
  have ht : ∀ d, d ∈ t → 0 ≤ d ∧ d < r 2 := fun d hd => hl d (by simp [hd])
  have hw := ok.2.2.2.2.2 c hc.1 hc.2
  have fit := sDP_fit ok hl hf hW s h0 h1
  have hn := sW_nn (r := r) (l := c :: t) (fun d hd => by have := hl d hd; exact (ok.2.2.2.2.2 d this.1 this.2).1)
  have vlt : sDP r fi W (c :: t) s < 100000000 := by omega
  have hs : s ≤ W := by omega
  have ex : ∃ s', s ≤ s' ∧ s' ≤ s + (W - s).toNat ∧ (s' + r (36 + 7 * c) ≤ W ∧ sMvA r c (fi + s') + sDP r fi W t (s' + r (36 + 7 * c)) = sDP r fi W (c :: t) s) := by
    rcases sDd_at (w := r (36 + 7 * c)) (mv := fun s => sMvA r c (fi + s)) (nx := sDP r fi W t) (W := W) (W - s).toNat with z | ⟨e, e1, e2⟩
    · have : sDP r fi W (c :: t) s = 100000000 := z
      omega
    · have e3 : sDP r fi W (c :: t) s = sDv (r (36 + 7 * c)) (fun s => sMvA r c (fi + s)) (sDP r fi W t) W (W - e) := e2
      refine ⟨W - e, by omega, by omega, ?_⟩
      rw [e3] at vlt ⊢
      unfold sDv at vlt ⊢
      by_cases q : W - e + r (36 + 7 * c) ≤ W
      · rw [if_pos q] at vlt ⊢
        by_cases q2 : sDP r fi W t (W - e + r (36 + 7 * c)) = 100000000
        · rw [if_pos q2] at vlt
          omega
        · rw [if_neg q2]
          exact ⟨q, rfl⟩
      · rw [if_neg q] at vlt
        omega
  obtain ⟨s', x1, x2, x3⟩ := ex
  obtain ⟨p1, p2, p3⟩ := sPos_ok (w := r (36 + 7 * c)) (W := W) (v := sDP r fi W (c :: t) s) (mv := fun s => sMvA r c (fi + s)) (nx := sDP r fi W t) (W - s).toNat s s' x1 x2 x3
  refine ⟨p1, p2, p3, ?_⟩
  rcases Int.lt_or_le W (sPlc r fi W c t s + r (36 + 7 * c) + sW r t) with z | z
  · have far := sDP_far (fi := fi) ok ht (sPlc r fi W c t s + r (36 + 7 * c)) (by unfold sPlc; omega) p1.1 z
    have m0 := sMvA_b (s := fi + sPlc r fi W c t s) ok hc.1 hc.2
    have p12 : sMvA r c (fi + sPlc r fi W c t s) + sDP r fi W t (sPlc r fi W c t s + r (36 + 7 * c)) = sDP r fi W (c :: t) s := p1.2
    omega
  · exact z
/-- rows that differ in spots alone -/
def sameX (r r' : Int → Int) : Prop := ∀ j, ¬ (36 ≤ j ∧ j < 176 ∧ 5 ≤ (j - 36) % 7) → r' j = r j
theorem sameX_r (r : Int → Int) : sameX r r := fun _ _ => rfl
theorem sameX_t {r r' r'' : Int → Int} (h1 : sameX r r') (h2 : sameX r' r'') : sameX r r'' := fun j hj => by rw [h2 j hj, h1 j hj]
theorem sameX_s {r r' : Int → Int} (h1 : sameX r r') : sameX r' r := fun j hj => (h1 j hj).symm
theorem sameX_give {r : Int → Int} {c R S : Int} (h0 : 0 ≤ c) (h1 : c < 20) : sameX r (rGive r c R S) := fun j hj => rGive_n (by omega) (by omega)
theorem sMvA_x {r r' : Int → Int} (h : sameX r r') {c : Int} (h0 : 0 ≤ c) (h1 : c < 20) (s : Int) : sMvA r' c s = sMvA r c s := by
  unfold sMvA
  rw [h (36 + 7 * c) (by omega), h (36 + 7 * c + 3) (by omega)]
theorem sDP_x {r r' : Int → Int} (h : sameX r r') (fi W : Int) {l : List Int} (hl : ∀ c, c ∈ l → 0 ≤ c ∧ c < 20) : sDP r' fi W l = sDP r fi W l := by
  induction l with
  | nil => rfl
  | cons c t ih =>
    have hc := hl c (by simp)
    funext s
    rw [sDP, sDP, ih (fun d hd => hl d (by simp [hd])), h (36 + 7 * c) (by omega)]
    dsimp only
    congr 1
    funext z
    exact sMvA_x h hc.1 hc.2 _
theorem sW_x {r r' : Int → Int} (h : sameX r r') {l : List Int} (hl : ∀ c, c ∈ l → 0 ≤ c ∧ c < 20) : sW r' l = sW r l := by
  induction l with
  | nil => rfl
  | cons c t ih =>
    have hc := hl c (by simp)
    rw [sW_cons, sW_cons, ih (fun d hd => hl d (by simp [hd])), h (36 + 7 * c) (by omega)]
theorem rOk_x {r r' : Int → Int} (h : sameX r r') (ok : rOk r) (hB : rB r') : rOk r' := by
  obtain ⟨h1, h2, h3, h4, h5, h6⟩ := ok
  have e2 := h 2 (by omega)
  refine ⟨hB, by rw [h 0 (by omega)]; exact h2, by rw [h 1 (by omega)]; exact h3, by rw [e2]; exact h4, by rw [h 3 (by omega)]; exact h5, ?_⟩
  intro c c0 hc
  rw [e2] at hc
  rw [h _ (by omega)]
  exact h6 c c0 hc
theorem rPl_ok {r : Int → Int} {fi W R : Int} {l : List Int} (ok : rOk r) (hl : ∀ d, d ∈ l → 0 ≤ d ∧ d < r 2) (hf : 0 ≤ fi ∧ fi ≤ 100) (hW : W ≤ 32) (hR : 0 ≤ R ∧ R ≤ 100) (s : Int) (q : Int → Int) (h0 : 0 ≤ s) (h1 : s + sW r l ≤ W) (hB : rB q) : rB (rPl r fi W R l s q) ∧ sameX q (rPl r fi W R l s q) := by
  have g2 := ok.2.2.2.1
  induction l generalizing s q with
  | nil => exact ⟨hB, sameX_r q⟩
  | cons c t ih =>
    have hc := hl c (by simp)
    have hw := ok.2.2.2.2.2 c hc.1 hc.2
    obtain ⟨p1, p2, p3, p4⟩ := sPlc_ok (fi := fi) ok hl (by omega) hW s h0 h1
    rw [rPl]
    obtain ⟨i1, i2⟩ := ih (fun d hd => hl d (by simp [hd])) (sPlc r fi W c t s + r (36 + 7 * c)) (rGive q c R (fi + sPlc r fi W c t s)) (by omega) (by omega) (rB_rU (rB_rU hB (by omega)) (by omega))
    exact ⟨i1, sameX_t (sameX_give hc.1 (by omega)) i2⟩
section M37
variable {N : Nat} {h : ka_H} {a : Nat} {mf : Nat → Int} {ma : Nat → Int → Int}
/-- all but what placing changes -/
def mXr (mf : Nat → Int) (ma : Nat → Int → Int) (mf' : Nat → Int) (ma' : Nat → Int → Int) : Prop := (∀ k, k ≠ 25 → mf' k = mf k) ∧ (∀ p, p ≠ 2 → p ≠ 15 → p ≠ 16 → ma' p = ma p)
theorem c_placeRun (L : List (Int × Int × Int × Int)) (x : Int × Int × Int × Int) (k : Nat) (l : List Int) (n : Nat) (hN : 5000 ≤ N) (ok : rOk (ma 2)) (rn : mRun mf ma L) (hL : lOk 8 32 L) (hx : L[k]? = some x) (h22 : mf 22 = n) (hn : n ≤ 20) (hQ : ∀ i : Nat, i < n → 0 ≤ ma 13 i ∧ ma 13 i < ma 2 2) (hG : ∀ i : Nat, i < n → -1 ≤ ma 14 (ma 13 i) ∧ ma 14 (ma 13 i) ≤ 600) (hC : lSome (ma 13) (ma 14) k n = l) (hl : ∀ c, c ∈ l → 0 ≤ c ∧ c < ma 2 2) (hw : sW (ma 2) l ≤ x.2.2.2) :
    ∃ mf' ma', mXr mf ma mf' ma' ∧ ma' 2 = rPl (ma 2) x.2.2.1 x.2.2.2 x.1 l 0 (ma 2) ∧ fm_X9_placeRun N [.ref a, .int (iI k)] (mH h a mf ma) = some (mH h a mf' ma') := by
  have g2 := ok.2.2.2.1
  have hxx := hL.2 x (List.mem_of_getElem? hx)
  have hl1 := hL.1
  have hk : k < L.length := by
    rcases Nat.lt_or_ge k L.length with z | z
    · exact z
    · rw [List.getElem?_eq_none z] at hx
      cases hx
  have bl := lSome_len (ma 13) (ma 14) k n
  rw [hC] at bl
  have s1 := c_laySome (N := N) (h := h) (a := a) (mf := mf) (ma := ma) (k := k) (m := -1) n hN hn (fun i hi => by have := hQ i hi; omega) hG (by omega) (by omega)
  rw [hC, show lMore l (-1) = l by unfold lMore; rw [if_pos rfl]] at s1
  generalize hmf2 : mF mf 25 l.length = mf2 at s1
  generalize hma2 : mA ma 15 (rList l (ma 15)) = ma2 at s1
  have y2 : mX mf ma mf2 ma2 := ⟨fun j hj => by rw [← hmf2, mF_n hj], fun p p1 _ => by rw [← hma2, mA_n p1]⟩
  have z25 : mf2 25 = l.length := by rw [← hmf2, mF_s]
  have z15 : rIs (ma2 15) l := by rw [← hma2, mA_2]; exact rIs_list _ _
  have z2 : ma2 2 = ma 2 := y2.2 2 (by decide) (by decide)
  have rn2 := mRun_X rn y2
  obtain ⟨ma3, y3, tab, t15, l1⟩ := c_least (N := N) (h := h) (a := a) (mf := mf2) (ma := ma2) (k := k) L x k rfl l hN (by rw [z2]; exact ok) rn2 hL hx (by rw [z2]; exact hl) (by omega) z25 z15
  rw [z2] at l1 tab
  have y3' := mX_t y2 y3
  have v2 : ma3 2 = ma 2 := y3'.2 2 (by decide) (by decide)
  have v15 : rIs (ma3 15) l := by rw [t15]; exact z15
  have rn3 := mRun_X rn y3'
  obtain ⟨u8, u9, u10, u11⟩ := rn3.2 k x hx
  rw [en_X9_placeRun, eq_X9_placeRun_0, m_g22, Option.bind_some, h22, if_pos m_isc, s1, Option.bind_some, if_pos m_isc, l1, Option.bind_some]
  dsimp only
  have key := fix_ms (B := cm_X9_placeRun_20 N) (fun y : Nat × Int × (Int → Int) => [some (.ref a), some (.int (iI k)), some (.int (iI y.2.1)), some (.int (iI y.1))]) (fun y => mH h a mf2 (mA ma3 2 y.2.2)) (fun y => y.1 ≤ l.length ∧ 0 ≤ y.2.1 ∧ y.2.1 + sW (ma 2) (l.drop y.1) ≤ x.2.2.2 ∧ rB y.2.2 ∧ sameX (ma 2) y.2.2 ∧ rPl (ma 2) x.2.2.1 x.2.2.2 x.1 (l.drop y.1) y.2.1 y.2.2 = rPl (ma 2) x.2.2.1 x.2.2.2 x.1 l 0 (ma 2)) (fun y => l.length - y.1) (fun z => ∃ mf' ma', mXr mf ma mf' ma' ∧ ma' 2 = rPl (ma 2) x.2.2.1 x.2.2.2 x.1 l 0 (ma 2) ∧ z = some (mH h a mf' ma')) ?_ N (0, 0, ma 2) ⟨by dsimp only; omega, by dsimp only; omega, by dsimp only; rw [List.drop_zero]; omega, ok.1, sameX_r _, by dsimp only; rw [List.drop_zero]⟩ (by dsimp only; omega)
  · have e : mA ma3 2 (ma 2) = ma3 := by rw [← v2, mA_self]
    simp only [e, Int.natCast_zero] at key
    exact key
  · rintro K ⟨i, s, q⟩ ⟨p1, p2, p3, p4, p5, p6⟩
    dsimp only at p1 p2 p3 p4 p5 p6 ⊢
    have okq : rOk q := rOk_x p5 ok p4
    have q2 : q 2 = ma 2 2 := p5 2 (by omega)
    by_cases e : i = l.length
    · left
      refine ⟨mf2, mA ma3 2 q, ⟨fun j hj => by rw [y3'.1 j hj], fun p a1 a2 a3 => by rw [mA_n a1, y3'.2 p a2 a3]⟩, ?_, ?_⟩
      · rw [mA_2, ← p6, e, List.drop_length, rPl]
      · rw [eq_X9_placeRun_20, m_g25, Option.bind_some, z25, if_pos ((iI_le ⟨by omega, by omega⟩ ⟨by omega, by omega⟩).mpr (by omega))]
    · right
      have ed : l.drop i = l[i] :: l.drop (i + 1) := List.drop_eq_getElem_cons (by omega)
      have hc := hl l[i] (List.getElem_mem (by omega))
      have hwc := ok.2.2.2.2.2 l[i] hc.1 hc.2
      have hld : ∀ d, d ∈ l[i] :: l.drop (i + 1) → 0 ≤ d ∧ d < ma 2 2 := fun d hd => hl d (List.mem_of_mem_drop (by rw [ed]; exact hd))
      have hlt : ∀ d, d ∈ l.drop (i + 1) → 0 ≤ d ∧ d < ma 2 2 := fun d hd => hl d (List.mem_of_mem_drop hd)
      rw [ed] at p3 p6
      obtain ⟨o1, o2, o3, o4⟩ := sPlc_ok (fi := x.2.2.1) (W := x.2.2.2) ok hld (by omega) (by omega) s p2 p3
      have fit := sDP_fit (fi := x.2.2.1) (W := x.2.2.2) ok hld (by omega) (by omega) s p2 p3
      have lle : (l[i] :: l.drop (i + 1)).length ≤ 20 := by
        rw [← ed, List.length_drop]
        omega
      have snn := sW_nn (r := ma 2) (l := l[i] :: l.drop (i + 1)) (fun d hd => by have := hld d hd; exact (ok.2.2.2.2.2 d this.1 this.2).1)
      have dnn := sDP_b (fi := x.2.2.1) (W := x.2.2.2) ok hld s (by omega)
      generalize hp : sPlc (ma 2) x.2.2.1 x.2.2.2 l[i] (l.drop (i + 1)) s = p at o1 o2 o3 o4
      have ei : ((i + 1 : Nat) : Int) = (i : Int) + 1 := by omega
      have wq : q (36 + 7 * l[i]) = ma 2 (36 + 7 * l[i]) := p5 _ (by omega)
      have wg : rGive q l[i] x.1 (x.2.2.1 + p) (36 + 7 * l[i]) = ma 2 (36 + 7 * l[i]) := by rw [rGive_n (by omega) (by omega)]; exact wq
      have bg : rB (rGive q l[i] x.1 (x.2.2.1 + p)) := rB_rU (rB_rU p4 (by omega)) (by omega)
      refine ⟨(i + 1, p + ma 2 (36 + 7 * l[i]), rGive q l[i] x.1 (x.2.2.1 + p)), ⟨by dsimp only; omega, by dsimp only; omega, o4, bg, sameX_t p5 (sameX_give hc.1 (by omega)), ?_⟩, by dsimp only; omega, ?_⟩
      · dsimp only
        rw [← p6, rPl, hp]
      · dsimp only
        have cw := c_width (N := N) (h := h) (a := a) (mf := mf2) (ma := mA ma3 2 q) (c := l[i]) hc.1 (by omega)
        rw [mA_2, wq] at cw
        have cwg := c_width (N := N) (h := h) (a := a) (mf := mf2) (ma := mA ma3 2 (rGive q l[i] x.1 (x.2.2.1 + p))) (c := l[i]) hc.1 (by omega)
        rw [mA_2, wg] at cwg
        have b1 : ∀ j : Nat, mA ma3 2 q 16 j = ma3 16 j := fun j => by rw [mA_n (by decide)]
        have tv := tab i p1 s p2 (by rw [sW_cons] at p3; have := sW_nn (r := ma 2) (l := l.drop (i + 1)) (fun d hd => by have := hlt d hd; exact (ok.2.2.2.2.2 d this.1 this.2).1); omega)
        rw [ed] at tv
        have inner := fix_ms (B := cm_X9_placeRun_49 N K) (fun z : Int => [some (.ref a), some (.int (iI k)), some (.int (iI z)), some (.int (iI i)), some (.int (iI l[i])), some (.int (iI (sDP (ma 2) x.2.2.1 x.2.2.2 (l[i] :: l.drop (i + 1)) s)))]) (fun _ => mH h a mf2 (mA ma3 2 q)) (fun z => s ≤ z ∧ z ≤ p) (fun z => (p - z).toNat) (fun z => z = K [some (.ref a), some (.int (iI k)), some (.int (iI (p + ma 2 (36 + 7 * l[i])))), some (.int (iI ((i + 1 : Nat) : Int)))] [] (mH h a mf2 (mA ma3 2 (rGive q l[i] x.1 (x.2.2.1 + p))))) ?_ N s ⟨by omega, o2⟩ (by omega)
        · rw [← inner, eq_X9_placeRun_20, m_g25, Option.bind_some, z25, if_neg (fun z => by have := (iI_le ⟨by omega, by omega⟩ ⟨by omega, by omega⟩).mp z; omega), m_r24, Option.bind_some, m_l24 (by omega) (by omega), Option.bind_some, mA_n (by decide), v15 i (by omega), m_r26, Option.bind_some, iI_mul, iI_add, m_l26 (by omega) (by omega), Option.bind_some, mA_n (by decide), tv]
        · intro K2 z hz
          have nx : ∀ zz : Int, s ≤ zz → zz + ma 2 (36 + 7 * l[i]) ≤ x.2.2.2 → ma3 16 (33 * ((i + 1 : Nat) : Int) + (zz + ma 2 (36 + 7 * l[i]))) = sDP (ma 2) x.2.2.1 x.2.2.2 (l.drop (i + 1)) (zz + ma 2 (36 + 7 * l[i])) := fun zz z1 z2 => tab (i + 1) (by omega) _ (by omega) z2
          by_cases e2 : z = p
          · left
            subst e2
            have mv := c_moveAt (N := N) (h := h) (a := a) (mf := mf2) (ma := mA ma3 2 q) (c := l[i]) (s := x.2.2.1 + z) (by rw [mA_2]; exact okq) (by omega) (by omega)
            rw [mA_2, sMvA_x p5 hc.1 (by omega)] at mv
            rw [eq_X9_placeRun_49, if_pos m_isc, cw, Option.bind_some]
            dsimp only
            rw [m_r17, Option.bind_some, m_l17 (by omega) (by omega), Option.bind_some, mA_n (by decide), u11, iI_add, if_neg (fun y => by have := (iI_lt ⟨by omega, by omega⟩ ⟨by omega, by omega⟩).mp y; omega), m_r16, Option.bind_some, m_l16 (by omega) (by omega), Option.bind_some, mA_n (by decide), u10, if_pos m_isc, iI_add, mv, Option.bind_some]
            dsimp only
            rw [m_r26, Option.bind_some, if_pos m_isc, cw, Option.bind_some]
            dsimp only
            rw [iI_add, iI_mul, iI_add, iI_add, m_l26 (by omega) (by omega), Option.bind_some, mA_n (by decide), show 33 * ((i : Int) + 1) + z + ma 2 (36 + 7 * l[i]) = 33 * ((i + 1 : Nat) : Int) + (z + ma 2 (36 + 7 * l[i])) by omega, nx z (by omega) o1.1, iI_add, if_pos (by rw [o1.2]), m_r14, Option.bind_some, eq_X9_placeRun_119, m_l14 (by omega) (by omega), Option.bind_some, m_r16, Option.bind_some, m_l16 (by omega) (by omega), Option.bind_some, mA_n (by decide), mA_n (by decide), u8, u10, if_pos m_isc, iI_add, c_give hc.1 (by omega), Option.bind_some, mA_2, mA_mA, if_pos m_isc, cwg, Option.bind_some]
            dsimp only
            rw [iI_add, iI_add, ei]
          · right
            refine ⟨z + 1, by omega, by omega, ?_⟩
            have no := o3 z hz.1 (by omega)
            rw [eq_X9_placeRun_49, if_pos m_isc, cw, Option.bind_some]
            dsimp only
            rw [m_r17, Option.bind_some, m_l17 (by omega) (by omega), Option.bind_some, mA_n (by decide), u11, iI_add]
            by_cases q3 : z + ma 2 (36 + 7 * l[i]) ≤ x.2.2.2
            · have mv := c_moveAt (N := N) (h := h) (a := a) (mf := mf2) (ma := mA ma3 2 q) (c := l[i]) (s := x.2.2.1 + z) (by rw [mA_2]; exact okq) (by omega) (by omega)
              rw [mA_2, sMvA_x p5 hc.1 (by omega)] at mv
              have m0 := sMvA_b (s := x.2.2.1 + z) ok hc.1 hc.2
              have m1 := sMvA_l (s := x.2.2.1 + z) ok hc.1 hc.2 (by omega)
              have d0 := sDP_b (fi := x.2.2.1) (W := x.2.2.2) ok hlt (z + ma 2 (36 + 7 * l[i])) (by omega)
              have d1 := sDP_l (fi := x.2.2.1) (W := x.2.2.2) ok hlt (z + ma 2 (36 + 7 * l[i])) (by omega) q3
              rw [if_neg (fun y => by have := (iI_lt ⟨by omega, by omega⟩ ⟨by omega, by omega⟩).mp y; omega), m_r16, Option.bind_some, m_l16 (by omega) (by omega), Option.bind_some, mA_n (by decide), u10, if_pos m_isc, iI_add, mv, Option.bind_some]
              dsimp only
              rw [m_r26, Option.bind_some, if_pos m_isc, cw, Option.bind_some]
              dsimp only
              rw [iI_add, iI_mul, iI_add, iI_add, m_l26 (by omega) (by omega), Option.bind_some, mA_n (by decide), show 33 * ((i : Int) + 1) + z + ma 2 (36 + 7 * l[i]) = 33 * ((i + 1 : Nat) : Int) + (z + ma 2 (36 + 7 * l[i])) by omega, nx z (by omega) q3, iI_add, if_neg (by rw [iI_eq ⟨by omega, by omega⟩ ⟨by omega, by omega⟩]; exact fun y => no ⟨q3, y⟩), eq_X9_placeRun_106, iI_add]
            · rw [if_pos ((iI_lt ⟨by omega, by omega⟩ ⟨by omega, by omega⟩).mpr (by omega)), eq_X9_placeRun_106, iI_add]
end M37
