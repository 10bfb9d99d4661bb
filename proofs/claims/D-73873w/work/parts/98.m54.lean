/-! ===== the model: windows ===== -/
def sWb (tall : Int) (r : Int → Int) (ls : List Int) (j k : Nat) (R : Int) : List Int := (sBO (fun o => sWire tall (rGs (lPW r ls j k R o k) r)) (lPm 120 (idL k)) (idL k, sWire tall r)).1
theorem pm_all {n : Nat} (hn : n ≤ 5) {o : List Int} (h : o = idL n ∨ o ∈ lPm 120 (idL n)) : o.Perm (idL n) := by
  have := pm_perm ⟨n, by omega⟩
  rw [List.all_eq_true] at this
  have := this o (by rw [List.mem_cons]; exact h)
  exact List.isPerm_iff.mp this
theorem sWb_perm (tall : Int) (r : Int → Int) (ls : List Int) (j k : Nat) (R : Int) (hk : k ≤ 5) : (sWb tall r ls j k R).Perm (idL k) := by
  unfold sWb
  rcases sBO_mem (fun o => sWire tall (rGs (lPW r ls j k R o k) r)) (lPm 120 (idL k)) (idL k, sWire tall r) with z | z
  · rw [z]
  · exact pm_all hk (Or.inr z)
section M54
variable {N : Nat} {h : ka_H} {a : Nat} {mf : Nat → Int} {ma : Nat → Int → Int}
theorem c_putWindow {p : Nat} {r q : Int → Int} {ls o : List Int} {j k : Nat} {R : Int} (hN : 5000 ≤ N) (hp : p = 17 ∨ p = 18) (hk : k ≤ 4) (hq : ma 2 = q) (hqw : ∀ c, q (36 + 7 * c) = r (36 + 7 * c)) (ho : o.Perm (idL k)) (hls : ∀ m, m < k → 0 ≤ lg ls (j + m) ∧ lg ls (j + m) < 20) (h19 : ∀ m : Nat, m < k → ma 19 m = lg ls (j + m)) (h20 : ∀ m : Nat, m < k → ma 20 m = sGap r ls j k m) (ip : rIs (ma p) o) :
    fm_X9_putWindow N [.ref a, .int (iI R), .int (iI (r (36 + 7 * lg ls j + 6))), .int (iI k), .ref (a + 1 + p)] (mH h a mf ma) = some (mH h a mf (mA ma 2 (rGs (lPW r ls j k R o k) q))) := by
  have ml : mLen p = 5 := by rcases hp with e | e <;> subst e <;> rfl
  have ol : o.length = k := by rw [ho.length_eq, idL_len]
  rw [en_X9_putWindow, eq_X9_putWindow_0]
  have key := fix_up (B := cm_X9_putWindow_6 N) (R := some (mH h a mf (mA ma 2 (rGs (lPW r ls j k R o k) q)))) (fun i => [some (.ref a), some (.int (iI R)), some (.int (iI (r (36 + 7 * lg ls j + 6)))), some (.int (iI k)), some (.ref (a + 1 + p)), some (.int (iI (sPs r ls j k o i))), some (.int (iI i))]) (fun i => mH h a mf (mA ma 2 (rGs (lPW r ls j k R o i) q))) k ?_ ?_ N 0 (by omega) (by omega)
  · simp only [lPW, rGs_nil, Int.natCast_zero, sPs] at key
    rw [show mA ma 2 q = ma by rw [← hq, mA_self]] at key
    exact key
  · intro K
    rw [eq_X9_putWindow_6, if_pos ((iI_le ⟨by omega, by omega⟩ ⟨by omega, by omega⟩).mpr (Int.le_refl _))]
  · intro K i hi
    have ei : ((i + 1 : Nat) : Int) = (i : Int) + 1 := by omega
    have bo := perm_b ho hi
    have bl := hls (lg o i).toNat (by omega)
    have e2 : ma p i = lg o i := by
      have := rIs_lg (x := i) ip (by omega) (by omega)
      rw [this, Int.toNat_natCast]
    have e19 : ma 19 (lg o i) = lg ls (j + (lg o i).toNat) := by
      have := h19 (lg o i).toNat (by omega)
      rw [show (((lg o i).toNat : Nat) : Int) = lg o i by omega] at this
      exact this
    have lp : ka_ld 0 (mH h a mf (mA ma 2 (rGs (lPW r ls j k R o i) q))) (a + 1 + p) (iI i) = some (iI (lg o i)) := by
      rw [m_ld (p := p) rfl (by omega) (by omega) (by omega), mA_n (by omega), e2]
    have cw := c_width (N := N) (h := h) (a := a) (mf := mf) (ma := mA ma 2 (rGive (rGs (lPW r ls j k R o i) q) (lg ls (j + (lg o i).toNat)) R (sPs r ls j k o i))) (c := lg ls (j + (lg o i).toNat)) bl.1 bl.2
    rw [mA_2, rGive_n (by omega) (by omega), rGs_n (fun x hx => ⟨by omega, by omega⟩), hqw] at cw
    rw [eq_X9_putWindow_6, if_neg (fun z => by have := (iI_le ⟨by omega, by omega⟩ ⟨by omega, by omega⟩).mp z; omega), m_r29, Option.bind_some, lp, Option.bind_some, m_l29 (by omega) (by omega), Option.bind_some, mA_n (by decide), e19, if_pos m_isc, c_give bl.1 bl.2, Option.bind_some, mA_2, mA_mA, if_pos m_isc, cw, Option.bind_some]
    dsimp only
    rw [m_r30, Option.bind_some, m_l30 (by omega) (by omega), Option.bind_some, mA_n (by decide), h20 i hi, iI_add, iI_add, iI_add, ei, lPW, rGs_app, sPs]
/-- all but what a window changes -/
def mV (ma ma' : Nat → Int → Int) : Prop := ∀ p, p ≠ 2 → p ≠ 12 → p ≠ 17 → p ≠ 18 → p ≠ 19 → p ≠ 20 → ma' p = ma p
theorem c_window {rows sites : Int} {r : Int → Int} {R fi lo F : Int} {ls : List Int} {j k : Nat} (hN : 5000 ≤ N) (hr : ma 2 = r) (v : vOk r) (tm : tmOk (ma 1)) (la : laOk rows sites r) (ov : ovOk r) (wn : wnOk r R fi lo ls) (s1 : rows ≤ 8) (s2 : sites ≤ 32) (hR : 0 ≤ R ∧ R < rows) (hfi : 0 ≤ fi ∧ fi + lo ≤ sites) (hrun : ∀ z, fi ≤ z → z < fi + lo → sBar r R z = false ∧ sFen r R z = F) (hk : 2 ≤ k ∧ k ≤ 4) (hjk : j + k ≤ ls.length) (hl : ls.length ≤ 20) (i12 : rIs (ma 12) ls) :
    ∃ ma', mV ma ma' ∧ ma' 2 = rGs (lPW r ls j k R (sWb (ma 1 4) r ls j k R) k) r ∧ rIs (ma' 12) (lWin ls j k (sWb (ma 1 4) r ls j k R)) ∧ fm_X9_window N [.ref a, .int (iI R), .int (iI j), .int (iI k)] (mH h a mf ma) = some (mH h a mf ma') := by
  have g2 := v.1.2.2.2.1
  have t4 := tm.2.2.2.2.1
  have e12 : ∀ m : Nat, m < ls.length → ma 12 m = lg ls m := by
    intro m hm
    have := rIs_lg (x := m) i12 (by omega) (by omega)
    rw [this, Int.toNat_natCast]
  have hls : ∀ m, m < ls.length → 0 ≤ lg ls m ∧ lg ls m < 20 := by
    intro m hm
    have := (wn.1 _ (lg_mem hm)).1
    omega
  have hl0 := hls j (by omega)
  have st := fun (o : List Int) (ho : o.Perm (idL k)) => wn_step v la ov wn s1 s2 hR hfi hrun (by omega) hjk ho
  -- cells and gaps laid
  have lay : ∃ A19 A20, (∀ m : Nat, m < k → A19 m = lg ls (j + m)) ∧ (∀ m : Nat, m < k → A20 m = sGap r ls j k m) ∧ fm_X9_window N [.ref a, .int (iI R), .int (iI j), .int (iI k)] (mH h a mf ma) = (if ka_isc (mH h a mf (mA (mA ma 19 A19) 20 A20)) [11] a = true then (fm_X9_firstOrder N [.ref a, .int (iI k)] (mH h a mf (mA (mA ma 19 A19) 20 A20))).bind fun r1 => (if ka_isc r1 [11] a = true then (fm_X9_keepOrder N [.ref a, .int (iI k)] r1).bind fun r2 => (if ka_isc r2 [11] a = true then (fm_X9_wire N [.ref a] r2).bind fun r3 => ki_fix (cm_X9_window_132 N) N [some (.ref a), some (.int (iI R)), some (.int (iI j)), some (.int (iI k)), some (.int (iI (r (36 + 7 * lg ls j + 6)))), some (.int r3.1)] [] r3.2 else none) else none) else none) := by
    rw [en_X9_window, eq_X9_window_0, m_r6, Option.bind_some, m_r19, Option.bind_some, m_l19 (by omega) (by omega), Option.bind_some, e12 j (by omega), c_cellAt, Option.bind_some]
    dsimp only
    rw [iI_add, m_l6 (by omega) (by omega), Option.bind_some, hr]
    have key := fix_ms (B := cm_X9_window_22 N) (fun x : Nat × (Int → Int) × (Int → Int) => [some (.ref a), some (.int (iI R)), some (.int (iI j)), some (.int (iI k)), some (.int (iI (r (36 + 7 * lg ls j + 6)))), some (.int (iI x.1))]) (fun x => mH h a mf (mA (mA ma 19 x.2.1) 20 x.2.2)) (fun x => x.1 ≤ k ∧ (∀ m : Nat, m < x.1 → x.2.1 m = lg ls (j + m)) ∧ ∀ m : Nat, m < x.1 → x.2.2 m = sGap r ls j k m) (fun x => k - x.1) (fun z => ∃ A19 A20, (∀ m : Nat, m < k → A19 m = lg ls (j + m)) ∧ (∀ m : Nat, m < k → A20 m = sGap r ls j k m) ∧ z = (if ka_isc (mH h a mf (mA (mA ma 19 A19) 20 A20)) [11] a = true then (fm_X9_firstOrder N [.ref a, .int (iI k)] (mH h a mf (mA (mA ma 19 A19) 20 A20))).bind fun r1 => (if ka_isc r1 [11] a = true then (fm_X9_keepOrder N [.ref a, .int (iI k)] r1).bind fun r2 => (if ka_isc r2 [11] a = true then (fm_X9_wire N [.ref a] r2).bind fun r3 => ki_fix (cm_X9_window_132 N) N [some (.ref a), some (.int (iI R)), some (.int (iI j)), some (.int (iI k)), some (.int (iI (r (36 + 7 * lg ls j + 6)))), some (.int r3.1)] [] r3.2 else none) else none) else none)) ?_ N (0, ma 19, ma 20) ⟨by dsimp only; omega, fun m hm => by dsimp only at hm; omega, fun m hm => by dsimp only at hm; omega⟩ (by dsimp only; omega)
    · have e0 : mA (mA ma 19 (ma 19)) 20 (ma 20) = ma := by rw [mA_self, mA_self]
      simp only [e0, Int.natCast_zero] at key
      exact key
    · rintro K ⟨i, A, B⟩ ⟨p1, p2, p3⟩
      dsimp only at p1 p2 p3 ⊢
      by_cases e : i = k
      · left
        subst e
        refine ⟨A, B, p2, p3, ?_⟩
        rw [eq_X9_window_22, if_pos ((iI_le ⟨by omega, by omega⟩ ⟨by omega, by omega⟩).mpr (Int.le_refl _))]
      · right
        have ei : ((i + 1 : Nat) : Int) = (i : Int) + 1 := by omega
        have eji : (j : Int) + i = ((j + i : Nat) : Int) := by omega
        have bi := hls (j + i) (by omega)
        refine ⟨(i + 1, rU A i (lg ls (j + i)), rU B i (sGap r ls j k i)), ⟨by dsimp only; omega, ?_, ?_⟩, by dsimp only; omega, ?_⟩
        · intro m hm
          dsimp only at hm ⊢
          by_cases em : m = i
          · subst em; rw [rU_s]
          · rw [rU_n (by omega)]; exact p2 m (by omega)
        · intro m hm
          dsimp only at hm ⊢
          by_cases em : m = i
          · subst em; rw [rU_s]
          · rw [rU_n (by omega)]; exact p3 m (by omega)
        · dsimp only
          have e6 : ∀ A' B', mA (mA ma 19 A') 20 B' 2 = r := fun A' B' => by rw [mA_n (by decide), mA_n (by decide), hr]
          rw [eq_X9_window_22, if_neg (fun z => by have := (iI_le ⟨by omega, by omega⟩ ⟨by omega, by omega⟩).mp z; omega), m_r19, Option.bind_some, iI_add, eji, m_l19 (by omega) (by omega), Option.bind_some, mA_n (by decide), mA_n (by decide), e12 (j + i) (by omega), m_r29, Option.bind_some, m_s29 (by omega) (by omega), Option.bind_some, mU_mA, mA_n (by decide), mA_2, mA_c (p := 20) (q := 19) (by decide), mA_mA, m_r30, Option.bind_some, iI_add]
          by_cases q : i + 1 < k
          · have eji2 : ((j + i : Nat) : Int) + 1 = ((j + i + 1 : Nat) : Int) := by omega
            have bi2 := hls (j + i + 1) (by omega)
            have cw := c_width (N := N) (h := h) (a := a) (mf := mf) (ma := mA (mA ma 19 (rU A i (lg ls (j + i)))) 20 B) (c := lg ls (j + i)) bi.1 bi.2
            rw [e6] at cw
            have eg : sGap r ls j k i = r (36 + 7 * lg ls (j + i + 1) + 6) - r (36 + 7 * lg ls (j + i) + 6) - r (36 + 7 * lg ls (j + i)) := if_pos q
            rw [if_neg (fun z => by have := (iI_le ⟨by omega, by omega⟩ ⟨by omega, by omega⟩).mp z; omega), m_r6, Option.bind_some, m_r19, Option.bind_some, iI_add, eji2, m_l19 (by omega) (by omega), Option.bind_some, mA_n (by decide), mA_n (by decide), e12 (j + i + 1) (by omega), c_cellAt, Option.bind_some]
            dsimp only
            rw [iI_add, m_l6 (by omega) (by omega), Option.bind_some, e6, m_r6, Option.bind_some, eq_X9_window_90, c_cellAt, Option.bind_some]
            dsimp only
            rw [iI_add, m_l6 (by omega) (by omega), Option.bind_some, e6, if_pos m_isc, cw, Option.bind_some]
            dsimp only
            rw [iI_sub, iI_sub, eq_X9_window_109, m_s30 (by omega) (by omega), Option.bind_some, mU_mA, mA_2, mA_mA, iI_add, ei, eg]
          · have eg : sGap r ls j k i = 0 := if_neg q
            rw [if_pos ((iI_le ⟨by omega, by omega⟩ ⟨by omega, by omega⟩).mpr (by omega)), eq_X9_window_109, m_s30 (by omega) (by omega), Option.bind_some, mU_mA, mA_2, mA_mA, iI_add, ei, eg]
  obtain ⟨A19, A20, w19, w20, hfm⟩ := lay
  rw [hfm]
  generalize hmb : mA (mA ma 19 A19) 20 A20 = mb
  have b2 : mb 2 = r := by rw [← hmb, mA_n (by decide), mA_n (by decide), hr]
  have b1 : mb 1 = ma 1 := by rw [← hmb, mA_n (by decide), mA_n (by decide)]
  have b12 : mb 12 = ma 12 := by rw [← hmb, mA_n (by decide), mA_n (by decide)]
  have b19 : mb 19 = A19 := by rw [← hmb, mA_n (by decide), mA_2]
  have b20 : mb 20 = A20 := by rw [← hmb, mA_2]
  have bV : ∀ p, p ≠ 19 → p ≠ 20 → mb p = ma p := fun p h1 h2 => by rw [← hmb, mA_n h2, mA_n h1]
  obtain ⟨k1, k2, k3⟩ := pm_ok ⟨k, by omega⟩
  dsimp only at k1 k2 k3
  have k4 : ∀ o, o ∈ lPm 120 (idL k) → gdO k o = true ∧ o.Perm (idL k) := by
    rw [List.all_eq_true] at k3
    exact fun o ho => ⟨k3 o ho, pm_all (by omega) (Or.inr ho)⟩
  have e0 : mO mb (idL k) (idL k) r = mA (mA mb 17 (rList (idL k) (mb 17))) 18 (rList (idL k) (mb 18)) := by
    unfold mO
    have : r = mA (mA mb 17 (rList (idL k) (mb 17))) 18 (rList (idL k) (mb 18)) 2 := by rw [mA_n (by decide), mA_n (by decide), b2]
    conv => lhs; rw [this, mA_self]
  have ko := c_keepOrder (N := N) (h := h) (a := a) (mf := mf) (ma := mb) (l := idL k) (g := mb 17) hN (by rw [idL_len]; omega)
  rw [idL_len] at ko
  have wv : ∀ l b q, vOk q → fm_X9_wire N [.ref a] (mH h a mf (mO mb l b q)) = some (iI (sWire (ma 1 4) q), mH h a mf (mO mb l b q)) := by
    intro l b q vq
    have := c_wireV (N := N) (h := h) (a := a) (mf := mf) (ma := mA (mA mb 17 (rList l (mb 17))) 18 (rList b (mb 18))) hN vq
    rw [mA_n (by decide), mA_n (by decide), b1] at this
    exact this
  rw [if_pos m_isc, c_firstOrder hN (by omega), Option.bind_some, if_pos m_isc, ko, Option.bind_some, ← e0, if_pos m_isc, wv _ _ _ v, Option.bind_some]
  dsimp only
  have pp : ∀ o o' : List Int, o.Perm (idL k) → o'.Perm (idL k) → rGs (lPW r ls j k R o k) (rGs (lPW r ls j k R o' k) r) = rGs (lPW r ls j k R o k) r := by
    intro o o' ho ho'
    refine rGs_rGs (fun x hx => ?_)
    obtain ⟨i, i1, i2⟩ := lPW_fst hx
    have bo := perm_b ho' i1
    obtain ⟨m, m1, m2⟩ := perm_on ho (show (lg o' i).toNat < k by omega)
    refine ⟨_, lPW_mem (o := o) m1, ?_⟩
    rw [i2, m2, Int.toNat_natCast]
  have gws : ∀ o : List Int, o.Perm (idL k) → ∀ c, rGs (lPW r ls j k R o k) r (36 + 7 * c) = r (36 + 7 * c) := fun o ho c => rGs_n (fun x hx => ⟨by omega, by omega⟩)
  have hlsk : ∀ m, m < k → 0 ≤ lg ls (j + m) ∧ lg ls (j + m) < 20 := fun m hm => hls (j + m) (by omega)
  have h19' : ∀ l b q, ∀ m : Nat, m < k → mO mb l b q 19 m = lg ls (j + m) := fun l b q m hm => by rw [mO_n (by decide) (by decide) (by decide), b19]; exact w19 m hm
  have h20' : ∀ l b q, ∀ m : Nat, m < k → mO mb l b q 20 m = sGap r ls j k m := fun l b q m hm => by rw [mO_n (by decide) (by decide) (by decide), b20]; exact w20 m hm
  refine fix_ms (B := cm_X9_window_132 N) (fun x : Nat × List Int × List Int × Int × (Int → Int) => [some (.ref a), some (.int (iI R)), some (.int (iI j)), some (.int (iI k)), some (.int (iI (r (36 + 7 * lg ls j + 6)))), some (.int (iI x.2.2.2.1))]) (fun x => mH h a mf (mO mb x.2.1 x.2.2.1 x.2.2.2.2)) (fun x => x.1 ≤ 120 ∧ lEn x.1 x.2.1 = true ∧ (gdO k x.2.1 = true ∧ x.2.1.Perm (idL k)) ∧ (gdO k x.2.2.1 = true ∧ x.2.2.1.Perm (idL k)) ∧ (∀ o, o ∈ lPm x.1 x.2.1 → gdO k o = true ∧ o.Perm (idL k)) ∧ (0 ≤ x.2.2.2.1 ∧ x.2.2.2.1 ≤ 77760000) ∧ ((∀ c, x.2.2.2.2 (36 + 7 * c) = r (36 + 7 * c)) ∧ ∀ o, o.Perm (idL k) → rGs (lPW r ls j k R o k) x.2.2.2.2 = rGs (lPW r ls j k R o k) r) ∧ sBO (fun o => sWire (ma 1 4) (rGs (lPW r ls j k R o k) r)) (lPm x.1 x.2.1) (x.2.2.1, x.2.2.2.1) = sBO (fun o => sWire (ma 1 4) (rGs (lPW r ls j k R o k) r)) (lPm 120 (idL k)) (idL k, sWire (ma 1 4) r)) (fun x => x.1) (fun z => ∃ ma', mV ma ma' ∧ ma' 2 = rGs (lPW r ls j k R (sWb (ma 1 4) r ls j k R) k) r ∧ rIs (ma' 12) (lWin ls j k (sWb (ma 1 4) r ls j k R)) ∧ z = some (mH h a mf ma')) ?_ N (120, idL k, idL k, sWire (ma 1 4) r, r) ⟨by dsimp only; omega, k1, ⟨k2, List.Perm.refl _⟩, ⟨k2, List.Perm.refl _⟩, k4, sWire_b t4 v, ⟨fun _ => rfl, fun _ _ => rfl⟩, rfl⟩ (by dsimp only; omega)
  rintro K ⟨f, l, b, m, q⟩ ⟨p1, p2, p3, p4, p5, p6, p7, p8⟩
  dsimp only at p1 p2 p3 p4 p5 p6 p7 p8 ⊢
  have ll := gdO_len p3.1
  have bl := gdO_len p4.1
  have nx := c_nextOrder (N := N) (h := h) (a := a) (mf := mf) (ma := mA (mA mb 18 (rList b (mb 18))) 2 q) (l := l) (g := mb 17) hN (by omega) (fun i hi => by have := gdO_b p3.1 (show i < k by omega); omega)
  rw [← mO_17, ll] at nx
  rw [eq_X9_window_132, if_pos m_isc, nx]
  cases e : lNext l with
  | none =>
    left
    have em : lPm f l = [] := by
      cases f with
      | zero => rfl
      | succ f => rw [lPm, e]
    rw [em, sBO] at p8
    have eb : sWb (ma 1 4) r ls j k R = b := by
      unfold sWb
      rw [← p8]
    rw [eb]
    have pg := c_putWindow (N := N) (h := h) (a := a) (mf := mf) (ma := mO mb l b q) (p := 18) (r := r) (q := q) (ls := ls) (o := b) (j := j) (k := k) (R := R) hN (Or.inr rfl) (by omega) (mA_2 _ _ _) p7.1 p4.2 hlsk (h19' _ _ _) (h20' _ _ _) (by
      unfold mO
      rw [mA_n (by decide), mA_2]
      exact rIs_list _ _)
    rw [mO_2, p7.2 b p4.2] at pg
    dsimp only
    rw [Option.bind_some]
    dsimp only
    rw [if_pos (by rfl), m_r28, Option.bind_some, if_pos m_isc, show a + 19 = a + 1 + 18 by omega, pg, Option.bind_some]
    generalize hq2 : rGs (lPW r ls j k R b k) r = q2
    have key := fix_ms (B := cm_X9_window_192 N) (fun x : Nat × (Int → Int) => [some (.ref a), some (.int (iI R)), some (.int (iI j)), some (.int (iI k)), some (.int (iI (r (36 + 7 * lg ls j + 6)))), some (.int (iI m)), some (.int (iI x.1))]) (fun x => mH h a mf (mA (mO mb l b q2) 12 x.2)) (fun x => x.1 ≤ k ∧ ∀ z : Nat, z < ls.length → x.2 z = if j ≤ z ∧ z < j + x.1 then lg ls (j + (lg b (z - j)).toNat) else lg ls z) (fun x => k - x.1) (fun z => ∃ ma', mV ma ma' ∧ ma' 2 = q2 ∧ rIs (ma' 12) (lWin ls j k b) ∧ z = some (mH h a mf ma')) ?_ N (0, mb 12) ⟨by dsimp only; omega, fun z hz => by dsimp only; rw [if_neg (by omega), b12]; exact e12 z hz⟩ (by dsimp only; omega)
    · have e12' : mA (mO mb l b q2) 12 (mb 12) = mO mb l b q2 := by
        have : mb 12 = mO mb l b q2 12 := by rw [mO_n (by decide) (by decide) (by decide)]
        rw [this, mA_self]
      simp only [e12', Int.natCast_zero] at key
      exact key
    · rintro K2 ⟨i, A⟩ ⟨i1, i2⟩
      dsimp only at i1 i2 ⊢
      by_cases ei : i = k
      · left
        subst ei
        refine ⟨mA (mO mb l b q2) 12 A, ?_, ?_, ?_, ?_⟩
        · intro p a1 a2 a3 a4 a5 a6
          rw [mA_n a2, mO_n a3 a4 a1, bV p a5 a6]
        · rw [mA_n (by decide)]
          exact mA_2 _ _ _
        · rw [mA_2]
          intro z hz
          rw [lWin_len] at hz
          have := lWin_lg (ls := ls) (j := j) (k := i) (o := b) hz
          have e2 : lg (lWin ls j i b) z = (lWin ls j i b)[z]'(by rw [lWin_len]; exact hz) := by simp [lg, lWin_len, hz]
          rw [← e2, this, i2 z hz]
        · rw [eq_X9_window_192, if_pos ((iI_le ⟨by omega, by omega⟩ ⟨by omega, by omega⟩).mpr (Int.le_refl _))]
      · right
        have ei' : ((i + 1 : Nat) : Int) = (i : Int) + 1 := by omega
        have eji : (j : Int) + i = ((j + i : Nat) : Int) := by omega
        have bb := perm_b p4.2 (show i < k by omega)
        have lb : mA (mO mb l b q2) 12 A 18 i = lg b i := by
          rw [mA_n (by decide)]
          unfold mO
          rw [mA_n (by decide), mA_2, rList_lg (by omega)]
        have l19 : mA (mO mb l b q2) 12 A 19 (lg b i) = lg ls (j + (lg b i).toNat) := by
          rw [mA_n (by decide)]
          have := h19' l b q2 (lg b i).toNat (by omega)
          rw [show (((lg b i).toNat : Nat) : Int) = lg b i by omega] at this
          exact this
        refine ⟨(i + 1, rU A ((j + i : Nat) : Int) (lg ls (j + (lg b i).toNat))), ⟨by dsimp only; omega, ?_⟩, by dsimp only; omega, ?_⟩
        · intro z hz
          dsimp only
          by_cases ez : z = j + i
          · subst ez
            rw [rU_s, if_pos (by omega), show j + i - j = i by omega]
          · rw [rU_n (by omega), i2 z hz]
            by_cases ew : j ≤ z ∧ z < j + i
            · rw [if_pos ew, if_pos (by omega)]
            · rw [if_neg ew, if_neg (by omega)]
        · dsimp only
          rw [eq_X9_window_192, if_neg (fun z => by have := (iI_le ⟨by omega, by omega⟩ ⟨by omega, by omega⟩).mp z; omega), m_r19, Option.bind_some, m_r29, Option.bind_some, m_r28, Option.bind_some, m_l28 (by omega) (by omega), Option.bind_some, lb, m_l29 (by omega) (by omega), Option.bind_some, l19, iI_add, eji, m_s19 (by omega) (by omega), Option.bind_some, mU_mA, mA_2, mA_mA, iI_add, ei']
  | some o =>
    right
    cases f with
    | zero =>
      rw [lEn, e] at p2
      cases p2
    | succ f =>
      rw [lPm, e] at p5 p8
      rw [lEn, e] at p2
      dsimp only at p2 p5 p8
      have go := p5 o (by simp)
      have ol := gdO_len go.1
      have vo := (st o go.2).1.1
      have bw := sWire_b t4 vo
      have pg := c_putWindow (N := N) (h := h) (a := a) (mf := mf) (ma := mO mb o b q) (p := 17) (r := r) (q := q) (ls := ls) (o := o) (j := j) (k := k) (R := R) hN (Or.inl rfl) (by omega) (mA_2 _ _ _) p7.1 go.2 hlsk (h19' _ _ _) (h20' _ _ _) (by
        rw [mO_17, mA_2]
        exact rIs_list _ _)
      rw [mO_2, p7.2 o go.2] at pg
      rw [sBO] at p8
      dsimp only at p8
      have eo : mA (mA (mA mb 18 (rList b (mb 18))) 2 q) 17 (rList o (mb 17)) = mO mb o b q := (mO_17 mb o b q).symm
      dsimp only
      rw [Option.bind_some, eo]
      dsimp only
      rw [if_neg tb1, m_r27, Option.bind_some, if_pos m_isc, show a + 18 = a + 1 + 17 by omega, pg, Option.bind_some, if_pos m_isc, wv _ _ _ vo, Option.bind_some]
      dsimp only
      by_cases q3 : sWire (ma 1 4) (rGs (lPW r ls j k R o k) r) < m
      · rw [if_pos q3] at p8
        refine ⟨(f, o, o, sWire (ma 1 4) (rGs (lPW r ls j k R o k) r), rGs (lPW r ls j k R o k) r), ⟨by dsimp only; omega, p2, go, go, fun z hz => p5 z (by simp [hz]), bw, ⟨gws o go.2, fun z hz => pp z o hz go.2⟩, p8⟩, by dsimp only; omega, ?_⟩
        dsimp only
        have kp := c_keepOrder (N := N) (h := h) (a := a) (mf := mf) (ma := mA (mA mb 18 (rList b (mb 18))) 2 (rGs (lPW r ls j k R o k) r)) (l := o) (g := mb 17) hN (by omega)
        rw [← mO_17, ol, mA_n (by decide), mA_2, rList_rList (by omega)] at kp
        have ek : mA (mO mb o b (rGs (lPW r ls j k R o k) r)) 18 (rList o (mb 18)) = mO mb o o (rGs (lPW r ls j k R o k) r) := by
          unfold mO
          rw [mA_c (p := 2) (q := 18) (by decide), mA_mA]
        rw [if_neg (fun z => by have := (iI_le ⟨by omega, by omega⟩ ⟨by omega, by omega⟩).mp z; omega), if_pos m_isc, kp, Option.bind_some, ek, eq_X9_window_174]
      · rw [if_neg q3] at p8
        refine ⟨(f, o, b, m, rGs (lPW r ls j k R o k) r), ⟨by dsimp only; omega, p2, go, p4, fun z hz => p5 z (by simp [hz]), p6, ⟨gws o go.2, fun z hz => pp z o hz go.2⟩, p8⟩, by dsimp only; omega, ?_⟩
        dsimp only
        rw [if_pos ((iI_le ⟨by omega, by omega⟩ ⟨by omega, by omega⟩).mpr (by omega)), eq_X9_window_174]
end M54
