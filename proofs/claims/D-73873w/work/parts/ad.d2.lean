/-! ===== the component: bins laid, overflow, cost (2) ===== -/
theorem ka_la_at {h : ka_H} {A n kd k : Nat} {g : Nat → Option Nat} (e : h.1 A = some (.inl (kd, n, .inr g))) (hd : 3 ≤ kd ∧ kd < 10) (hk : k < n) (hn : n ≤ 100000) : ka_la h A (iI (k : Int)) = g k := by
  unfold ka_la
  rw [e]
  dsimp only
  have e1 : (iI (k : Int)).toNatClampNeg = k := by rw [iI_clamp ⟨by omega, by omega⟩]; omega
  have e2 : ¬ iI (k : Int) < 0 := fun z => by have := (iI_lt (a := (k : Int)) (b := 0) ⟨by omega, by omega⟩ ⟨by omega, by omega⟩).mp z; omega
  rw [e1, if_pos ⟨hd, fun z => by rcases z with z | z; exact e2 z; omega⟩]
theorem ka_ln_at {h : ka_H} {A n kd : Nat} {g : (Nat → Int32) ⊕ (Nat → Option Nat)} (e : h.1 A = some (.inl (kd, n, g))) : ka_ln h A = some n := by
  unfold ka_ln
  rw [e]
theorem ka_sa_at {h : ka_H} {A n kd k q c : Nat} {g : Nat → Option Nat} {fs : List Value} (e : h.1 A = some (.inl (kd, n, .inr g))) (eq : h.1 q = some (.inr (c, fs))) (hd : ka_takes kd c = true) (hk : k < n) (hn : n ≤ 100000) : ka_sa h A (iI (k : Int)) q = some (hU h A (.inl (kd, n, .inr (va_up g k (some q))))) := by
  unfold ka_sa
  rw [e]
  dsimp only
  rw [eq]
  dsimp only
  have e1 : (iI (k : Int)).toNatClampNeg = k := by rw [iI_clamp ⟨by omega, by omega⟩]; omega
  have e2 : ¬ iI (k : Int) < 0 := fun z => by have := (iI_lt (a := (k : Int)) (b := 0) ⟨by omega, by omega⟩ ⟨by omega, by omega⟩).mp z; omega
  rw [e1, if_pos ⟨hd, fun z => by rcases z with z | z; exact e2 z; omega⟩]
  rfl
theorem hU_n {h : ka_H} {q p : Nat} {z : ka_C} (e : p ≠ q) : (hU h q z).1 p = h.1 p := by
  unfold hU
  exact ka_up_n e
theorem bnS_u {h : ka_H} {B A n : Nat} {sites : Int} {u u' : Int → Int} (b : bnS h B A n sites u) (e : ∀ k : Nat, k < n → u k = u' k) : bnS h B A n sites u' := ⟨b.1, fun k hk => by rw [← e k hk]; exact b.2.1 k hk, b.2.2⟩
section D2
variable {N : Nat} {h : ka_H} {B : Nat} {ca : Nat → Int → Int} {cb : Value} {r : Int → Int} {s : Nat}
/-- the bins' array, over the component -/
theorem bnS_at {A n : Nat} {sites : Int} {u : Int → Int} (b : bnS h B A n sites u) : ∃ g, (cH h B ca cb).1 A = some (.inl (7, n, .inr g)) ∧ ∀ k, k < n → g k = some (A + 1 + k) := by
  obtain ⟨⟨g, e, f⟩, _, o⟩ := b
  exact ⟨g, by rw [cH_o (by omega)]; exact e, f⟩
theorem d_lb50 {A n : Nat} {u : Int → Int} (hN : 5000 ≤ N) (I : cI r ca s) (hn : n = (sBins (ca 30 0) (ca 30 1)).toNat) (b : bnS h B A n (ca 30 1) u) :
    ∃ h', bnS h' B A n (ca 30 1) (sSup (ca 30 0) (ca 30 1) r) ∧ (∀ q, ¬ (A ≤ q ∧ q ≤ A + n) → h'.1 q = h.1 q) ∧ h'.2 = h.2 ∧ cm_X1_laysBins_50 N [some (.ref B)] [] (cH h B ca (.ref A)) = some (cH h' B ca (.ref A)) := by
  have z0 := I.2.2.2.2.1
  have z1 := I.2.2.2.2.2.1
  have nb := sBins_b z0 z1
  rw [eq_X1_laysBins_50]
  have key := fix_ms (B := cm_X1_laysBins_52 N) (fun x : Nat × ka_H => [some (.ref B), some (.int (iI x.1))]) (fun x => cH x.2 B ca (.ref A)) (fun x => x.1 ≤ n ∧ bnS x.2 B A n (ca 30 1) (fun b => if b < x.1 then sSup (ca 30 0) (ca 30 1) r b else u b) ∧ (∀ q, ¬ (A ≤ q ∧ q ≤ A + n) → x.2.1 q = h.1 q) ∧ x.2.2 = h.2) (fun x => n - x.1) (fun z => ∃ h', bnS h' B A n (ca 30 1) (sSup (ca 30 0) (ca 30 1) r) ∧ (∀ q, ¬ (A ≤ q ∧ q ≤ A + n) → h'.1 q = h.1 q) ∧ h'.2 = h.2 ∧ z = some (cH h' B ca (.ref A))) ?_ N (0, h) ⟨by dsimp only; omega, bnS_u b (fun k _ => by dsimp only; rw [if_neg (by omega)]), fun _ _ => rfl, rfl⟩ (by dsimp only; omega)
  · exact key
  · rintro K ⟨k, x⟩ ⟨p1, p2, p3, p4⟩
    dsimp only at p1 p2 p3 p4 ⊢
    obtain ⟨g, ga, gk⟩ := bnS_at (ca := ca) (cb := .ref A) p2
    rw [eq_lb52 ob_v14, ka_ln_at ga, Option.bind_some, nI_iI]
    by_cases e : k = n
    · left
      refine ⟨x, bnS_u p2 (fun j hj => by rw [if_pos (by omega)]), p3, p4, ?_⟩
      rw [if_pos ((iI_le ⟨by omega, by omega⟩ ⟨by omega, by omega⟩).mpr (by omega))]
    · right
      have pc := bin_pc z0 z1 (b := (k : Int)) (by omega) (by omega)
      have bk := p2.2.1 k (by omega)
      have oA := p2.2.2
      have dl := d_lays (N := N) (cb := .ref A) hN I (Or.inr (show B + 1151 ≤ A + 1 + k by omega)) bk pc.1 pc.2
      refine ⟨(k + 1, hU x (A + 1 + k) (bC B ((k : Int) / sCols (ca 30 1) * 2) ((k : Int) % sCols (ca 30 1) * 8) (sSup (ca 30 0) (ca 30 1) r k))), ⟨by dsimp only; omega, ⟨?_, ?_, oA⟩, ?_, p4⟩, by dsimp only; omega, ?_⟩
      · obtain ⟨g', e1, e2⟩ := p2.1
        exact ⟨g', by rw [hU_n (by omega)]; exact e1, e2⟩
      · intro j hj
        dsimp only
        by_cases ej : j = k
        · subst ej
          rw [hU_at, if_pos (by omega)]
        · rw [hU_n (by omega), p2.2.1 j hj]
          dsimp only
          by_cases jk : j < k
          · rw [if_pos (by omega), if_pos (by omega)]
          · rw [if_neg (by omega), if_neg (by omega)]
      · intro q hq
        dsimp only
        rw [hU_n (by omega)]
        exact p3 q hq
      · rw [if_neg (fun z => by have := (iI_le ⟨by omega, by omega⟩ ⟨by omega, by omega⟩).mp z; omega), ka_la_at ga (by omega) (by omega) (by omega), gk k (by omega), Option.bind_some, if_pos (bn_isc (Or.inr (by omega)) bk), dl, Option.bind_some, iI_add]
        rfl
theorem d_laysBins1 {A n : Nat} {u : Int → Int} (hN : 5000 ≤ N) (I : cI r ca s) (hn : n = (sBins (ca 30 0) (ca 30 1)).toNat) (b : bnS h B A n (ca 30 1) u) :
    ∃ h', bnS h' B A n (ca 30 1) (sSup (ca 30 0) (ca 30 1) r) ∧ (∀ q, ¬ (A ≤ q ∧ q ≤ A + n) → h'.1 q = h.1 q) ∧ h'.2 = h.2 ∧ fm_X1_laysBins N [.ref B] (cH h B ca (.ref A)) = some (cH h' B ca (.ref A)) := by
  rw [en_lb, eq_lb0r ob_v14]
  exact d_lb50 hN I hn b
theorem d_laysBins0 {n : Nat} (hN : 5000 ≤ N) (I : cI r ca s) (hn : n = (sBins (ca 30 0) (ca 30 1)).toNat) (hZ : B + 1151 ≤ h.2.1) :
    ∃ h', bnS h' B h.2.1 n (ca 30 1) (sSup (ca 30 0) (ca 30 1) r) ∧ (∀ q, q < h.2.1 → h'.1 q = h.1 q) ∧ h'.2 = (h.2.1 + 1 + n, h.2.2.1 + n + 4 * n, h.2.2.2) ∧ fm_X1_laysBins N [.ref B] (cH h B ca .null) = some (cH h' B ca (.ref h.2.1)) := by
  have z0 := I.2.2.2.2.1
  have z1 := I.2.2.2.2.2.1
  have nb := sBins_b z0 z1
  have ec : (iI (sBins (ca 30 0) (ca 30 1))).toNatClampNeg = n := by rw [iI_clamp ⟨by omega, by omega⟩, hn]
  rw [en_lb, eq_lb0n ob_v14, if_pos ob_isc, d_binMany z0 z1, Option.bind_some]
  dsimp only
  rw [if_neg (by
    rw [ec]
    rintro (z | z)
    · have := (iI_lt (a := sBins (ca 30 0) (ca 30 1)) (b := 0) ⟨by omega, by omega⟩ ⟨by omega, by omega⟩).mp z
      omega
    · omega), ec, cH_mk hZ, ob_p14, Option.bind_some]
  have key := fix_ms (B := cm_X1_laysBins_20 N) (fun x : Nat × ka_H => [some (.ref B), some (.int (iI x.1))]) (fun x => cH x.2 B ca (.ref h.2.1)) (fun x => x.1 ≤ n ∧ (∃ g, x.2.1 h.2.1 = some (.inl (7, n, .inr g)) ∧ ∀ j, j < x.1 → g j = some (h.2.1 + 1 + j)) ∧ (∀ j : Nat, j < x.1 → x.2.1 (h.2.1 + 1 + j) = some (bC B ((j : Int) / sCols (ca 30 1) * 2) ((j : Int) % sCols (ca 30 1) * 8) 0)) ∧ (∀ q, q < h.2.1 → x.2.1 q = h.1 q) ∧ x.2.2 = (h.2.1 + 1 + x.1, h.2.2.1 + n + 4 * x.1, h.2.2.2)) (fun x => n - x.1) (fun z => ∃ h', bnS h' B h.2.1 n (ca 30 1) (sSup (ca 30 0) (ca 30 1) r) ∧ (∀ q, q < h.2.1 → h'.1 q = h.1 q) ∧ h'.2 = (h.2.1 + 1 + n, h.2.2.1 + n + 4 * n, h.2.2.2) ∧ z = some (cH h' B ca (.ref h.2.1))) ?_ N (0, ka_mk h (.inl (7, n, .inr fun _ => none)) n) ⟨by dsimp only; omega, ⟨fun _ => none, by dsimp only [ka_mk]; exact ka_up_s _ _ _, fun j hj => by dsimp only at hj; omega⟩, fun j hj => by dsimp only at hj; omega, fun q hq => by dsimp only [ka_mk]; exact ka_up_n (by omega), rfl⟩ (by dsimp only; omega)
  · exact key
  · rintro K ⟨k, x⟩ ⟨p1, ⟨g, p2, p2'⟩, p3, p4, p5⟩
    dsimp only at p1 p2 p2' p3 p4 p5 ⊢
    have oA : (cH x B ca (.ref h.2.1)).1 h.2.1 = some (.inl (7, n, .inr g)) := by rw [cH_o (by omega)]; exact p2
    rw [eq_lb20 ob_v14, ka_ln_at oA, Option.bind_some, nI_iI]
    by_cases e : k = n
    · left
      subst e
      rw [if_pos ((iI_le ⟨by omega, by omega⟩ ⟨by omega, by omega⟩).mpr (by omega))]
      obtain ⟨h', q1, q2, q3, q4⟩ := d_lb50 (h := x) (u := fun _ => 0) (A := h.2.1) (n := k) hN I hn ⟨⟨g, p2, p2'⟩, p3, hZ⟩
      exact ⟨h', q1, fun q hq => by rw [q2 q (by omega)]; exact p4 q hq, by rw [q3]; exact p5, q4⟩
    · right
      have x1 : x.2.1 = h.2.1 + 1 + k := by rw [p5]
      have hx : (cH x B ca (.ref h.2.1)).2.1 = x.2.1 := rfl
      have m1 : (ka_mk x (.inr (5, nf_X10)) nf_X10.length).1 x.2.1 = some (.inr (5, [.int 0, .int 0, .int (iI 0), .null])) := by
        dsimp only [ka_mk]
        rw [ka_up_s]
        rfl
      have di := d_binInit (N := N) (h := ka_mk x (.inr (5, nf_X10)) nf_X10.length) (B := B) (ca := ca) (cb := .ref h.2.1) (q := x.2.1) (b := k) (v2 := .null) (Or.inr (by omega)) m1 z1 (by omega)
      refine ⟨(k + 1, hU (hU (ka_mk x (.inr (5, nf_X10)) nf_X10.length) x.2.1 (bC B ((k : Int) / sCols (ca 30 1) * 2) ((k : Int) % sCols (ca 30 1) * 8) 0)) h.2.1 (.inl (7, n, .inr (va_up g k (some x.2.1))))), ⟨by dsimp only; omega, ⟨va_up g k (some x.2.1), hU_at _ _ _, ?_⟩, ?_, ?_, ?_⟩, by dsimp only; omega, ?_⟩
      · intro j hj
        dsimp only at hj ⊢
        by_cases ej : j = k
        · subst ej
          rw [va_up_self, x1]
        · rw [va_up_ne _ _ ej]
          exact p2' j (by omega)
      · intro j hj
        dsimp only at hj ⊢
        rw [hU_n (by omega)]
        by_cases ej : j = k
        · subst ej
          rw [← x1, hU_at]
        · rw [hU_n (by omega)]
          dsimp only [ka_mk]
          rw [ka_up_n (by omega)]
          exact p3 j (by omega)
      · intro q hq
        dsimp only
        rw [hU_n (by omega), hU_n (by omega)]
        dsimp only [ka_mk]
        rw [ka_up_n (by omega)]
        exact p4 q hq
      · dsimp only [hU, ka_mk]
        rw [p5]
        dsimp only [nf_X10, List.length]
        refine Prod.ext ?_ (Prod.ext ?_ rfl)
        · dsimp only; omega
        · dsimp only; omega
      · rw [if_neg (fun z => by have := (iI_le ⟨by omega, by omega⟩ ⟨by omega, by omega⟩).mp z; omega), cH_mk (by omega), hx, di, Option.bind_some]
        have at1 : (cH (hU (ka_mk x (.inr (5, nf_X10)) nf_X10.length) x.2.1 (bC B ((k : Int) / sCols (ca 30 1) * 2) ((k : Int) % sCols (ca 30 1) * 8) 0)) B ca (.ref h.2.1)).1 h.2.1 = some (.inl (7, n, .inr g)) := by
          rw [cH_o (by omega), hU_n (by omega)]
          dsimp only [ka_mk]
          rw [ka_up_n (by omega)]
          exact p2
        have at2 : (cH (hU (ka_mk x (.inr (5, nf_X10)) nf_X10.length) x.2.1 (bC B ((k : Int) / sCols (ca 30 1) * 2) ((k : Int) % sCols (ca 30 1) * 8) 0)) B ca (.ref h.2.1)).1 x.2.1 = some (bC B ((k : Int) / sCols (ca 30 1) * 2) ((k : Int) % sCols (ca 30 1) * 8) 0) := by
          rw [cH_o (by omega), hU_at]
        rw [ka_sa_at at1 at2 (by rfl) (by omega) (by omega), Option.bind_some, iI_add, ← cH_hU (by omega)]
        rfl
theorem d_overflow {A n : Nat} {u : Int → Int} (hN : 5000 ≤ N) (I : cI r ca s) (hn : n = (sBins (ca 30 0) (ca 30 1)).toNat) (b : bnS h B A n (ca 30 1) u) (hu : ∀ b : Int, 0 ≤ b → b < sBins (ca 30 0) (ca 30 1) → 0 ≤ u b ∧ u b ≤ 4096) :
    fm_X1_overflow N [.ref B] (cH h B ca (.ref A)) = some (iI (sOvf (ca 1 1) (ca 30 0) (ca 30 1) r u), cH h B ca (.ref A)) := by
  have z0 := I.2.2.2.2.1
  have z1 := I.2.2.2.2.2.1
  have nb := sBins_b z0 z1
  obtain ⟨g, ga, gk⟩ := bnS_at (ca := ca) (cb := .ref A) b
  rw [en_X1_overflow, eq_X1_overflow_0]
  refine fix_up (B := cm_X1_overflow_4 N) (fun i => [some (.ref B), some (.int (iI (aS (fun b => sOver (ca 1 1) (ca 30 1) r u b) i))), some (.int (iI i))]) (fun _ => cH h B ca (.ref A)) n ?_ ?_ N 0 (by omega) (by omega)
  · intro K
    rw [eq_of4 ob_v14, ka_ln_at ga, Option.bind_some, nI_iI, if_pos ((iI_le ⟨by omega, by omega⟩ ⟨by omega, by omega⟩).mpr (by omega)), hn]
    rfl
  · intro K k hk
    have pc := bin_pc z0 z1 (b := (k : Int)) (by omega) (by omega)
    have bk := b.2.1 k hk
    have oA := b.2.2
    rw [eq_of4 ob_v14, ka_ln_at ga, Option.bind_some, nI_iI, if_neg (fun z => by have := (iI_le ⟨by omega, by omega⟩ ⟨by omega, by omega⟩).mp z; omega), ka_la_at ga (by omega) (by omega) (by omega), gk k hk, Option.bind_some, if_pos (bn_isc (Or.inr (by omega)) bk), d_over hN I (Or.inr (by omega)) bk pc.1 pc.2 rfl rfl (hu k (by omega) (by omega)), Option.bind_some, iI_add, iI_add]
    rfl
theorem d_cost {A n : Nat} {u : Int → Int} (hN : 5000 ≤ N) (I : cI r ca s) (hn : n = (sBins (ca 30 0) (ca 30 1)).toNat) (b : bnS h B A n (ca 30 1) u) (hu : ∀ b : Int, 0 ≤ b → b < sBins (ca 30 0) (ca 30 1) → 0 ≤ u b ∧ u b ≤ 4096) :
    fm_X1_cost N [.ref B] (cH h B ca (.ref A)) = some (iI (sCost (ca 1) (ca 30 0) (ca 30 1) r u), cH h B ca (.ref A)) := by
  rw [en_X1_cost, eq_X1_cost_0, if_pos ob_isc, d_smooth hN I, Option.bind_some]
  dsimp only
  rw [ob_r4, Option.bind_some, tm_l (by omega) (by omega), Option.bind_some, if_pos ob_isc, d_overflow hN I hn b hu, Option.bind_some, iI_mul, iI_mul, iI_add]
  rfl
end D2
