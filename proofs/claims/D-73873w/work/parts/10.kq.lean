/-! ===== arrays, new cells, statics, casts ===== -/
/-- an int (byte, boolean) at a place of an array of a kind; ints also of the start's own arrays -/
def ka_ld (kd : Nat) (h : ka_H) (a : Nat) (i : Int32) : Option Int32 := match h.1 a with
  | some (.inl (k, n, .inl f)) => if (k = kd ∨ (k = 50 ∧ kd = 0)) ∧ ¬ (i < 0 ∨ n ≤ i.toNatClampNeg) then some (f i.toNatClampNeg) else none
  | _ => none
/-- a cell at a place of an array of references; none where null stands -/
def ka_la (h : ka_H) (a : Nat) (i : Int32) : Option Nat := match h.1 a with
  | some (.inl (k, n, .inr g)) => if (3 ≤ k ∧ k < 10) ∧ ¬ (i < 0 ∨ n ≤ i.toNatClampNeg) then g i.toNatClampNeg else none
  | _ => none
def ka_ln (h : ka_H) (a : Nat) : Option Nat := match h.1 a with
  | some (.inl (_, n, _)) => some n
  | _ => none
def ka_sd (kd : Nat) (h : ka_H) (a : Nat) (i x : Int32) : Option ka_H := match h.1 a with
  | some (.inl (k, n, .inl f)) => if k = kd ∧ ¬ (i < 0 ∨ n ≤ i.toNatClampNeg) then some (ka_up h.1 a (.inl (k, n, .inl (upd f i.toNatClampNeg x))), h.2) else none
  | _ => none
/-- which classes' objects an array of a kind takes -/
def ka_takes (k c : Nat) : Bool := match k with
  | 3 => c == 7
  | 4 => c == 6
  | 5 => c == 8
  | 6 => c == 9
  | 7 => c == 5
  | 9 => c == 6 || c == 10
  | _ => false
def ka_sa (h : ka_H) (a : Nat) (i : Int32) (v : Nat) : Option ka_H := match h.1 a with
  | some (.inl (k, n, .inr g)) => match h.1 v with
    | some (.inr (c, _)) => if ka_takes k c = true ∧ ¬ (i < 0 ∨ n ≤ i.toNatClampNeg) then some (ka_up h.1 a (.inl (k, n, .inr (va_up g i.toNatClampNeg (some v)))), h.2) else none
    | _ => none
  | _ => none
def ka_sn (h : ka_H) (a : Nat) (i : Int32) : Option ka_H := match h.1 a with
  | some (.inl (k, n, .inr g)) => if k = 9 ∧ ¬ (i < 0 ∨ n ≤ i.toNatClampNeg) then some (ka_up h.1 a (.inl (k, n, .inr (va_up g i.toNatClampNeg none))), h.2) else none
  | _ => none
theorem ka_arr {D : ka_D} {a k n : Nat} {c : (Nat → Int32) ⊕ (Nat → Option Nat)} {H : Heap} (h : ka_at D a (.inl (k, n, c)) H) (hk : k < 50) : k < 10 ∧ D.2.2.heap.size ≤ a ∧ va_at D.1 ka_cl (a, ka_e D (.inl (k, n, c))) H := by
  simp only [ka_at] at h
  rw [if_pos hk] at h
  exact h
theorem ka_arr_of {D : ka_D} {a k n : Nat} {c : (Nat → Int32) ⊕ (Nat → Option Nat)} {H : Heap} (hk : k < 10) (hb : D.2.2.heap.size ≤ a) (h : va_at D.1 ka_cl (a, ka_e D (.inl (k, n, c))) H) : ka_at D a (.inl (k, n, c)) H := by
  simp only [ka_at]
  rw [if_pos (by omega)]
  exact ⟨hk, hb, h⟩
theorem ka_old {D : ka_D} {a k n : Nat} {f : Nat → Int32} {H : Heap} (h : ka_at D a (.inl (k, n, .inl f)) H) (hk : ¬ k < 50) : va_X a n f D.2.2 H := by
  simp only [ka_at] at h
  rw [if_neg hk] at h
  exact h.2
theorem ka_tyr {k : Nat} (h1 : 3 ≤ k) (h2 : k < 10) : ∃ ty : FieldType, ka_ty[k]? = some ty ∧ ty.isReference = true := by
  match k, h1, h2 with
  | 3, _, _ => exact ⟨_, rfl, rfl⟩
  | 4, _, _ => exact ⟨_, rfl, rfl⟩
  | 5, _, _ => exact ⟨_, rfl, rfl⟩
  | 6, _, _ => exact ⟨_, rfl, rfl⟩
  | 7, _, _ => exact ⟨_, rfl, rfl⟩
  | 8, _, _ => exact ⟨_, rfl, rfl⟩
  | 9, _, _ => exact ⟨_, rfl, rfl⟩
theorem ka_tya {k : Nat} (h2 : k < 10) : ∃ ty : FieldType, ka_ty[k]? = some ty := ⟨ka_ty[k]'(by simpa using h2), List.getElem?_eq_getElem _⟩
theorem ka_one {D : va_G} {cl : List vw_C} {q : Nat × va_E} {H : Heap} (h : va_at D cl q H) : va_P D cl [q] H := fun i x hx => by
  match i, hx with
  | 0, hx => cases hx; exact h
  | i + 1, hx => simp at hx
section KQ
variable {own : String} {cc : ByteArray} {nL : Nat} {nm : String} {FR LO : Nat} {β : Type} {cv : β → Option Value × ka_H} {pc : Nat}
def ki_ld (kd : Nat) (K : ka_K β) : ka_K β := fun L S h => match S with
  | .int i :: .ref a :: S => (ka_ld kd h a i).bind fun x => K L (.int x :: S) h
  | _ => none
theorem ka_ld_spec {kd : Nat} {h : ka_H} {a : Nat} {i x : Int32} (e : ka_ld kd h a i = some x) : ∃ (k n : Nat) (f : Nat → Int32), h.1 a = some (.inl (k, n, .inl f)) ∧ (k = kd ∨ (k = 50 ∧ kd = 0)) ∧ ¬ (i < 0 ∨ n ≤ i.toNatClampNeg) ∧ f i.toNatClampNeg = x := by
  unfold ka_ld at e
  split at e
  · next k n f hx =>
    split at e
    · next hc => cases e; exact ⟨k, n, f, hx, hc.1, hc.2, rfl⟩
    · cases e
  · cases e
theorem ks_iald {K : ka_K β} (hd : decode cc pc = .ok (.iaload, 1)) (hk : ka_S own cc nL nm FR LO cv (pc + 1) K) : ka_S own cc nL nm FR LO cv pc (ki_ld 0 K) := by
  refine ks_step fun L S h b hb => ?_
  unfold ki_ld at hb
  split at hb
  · obtain ⟨x, hx, hb⟩ := Option.bind_eq_some_iff.mp hb
    obtain ⟨k, n, f, g1, g2, g3, rfl⟩ := ka_ld_spec hx
    refine ⟨_, K, L, _, hk, hb, fun D p l e R s m args below meth c Q cells slots cx H locs ls hP hL kk => ?_⟩
    obtain ⟨x1, x2, x3, x4, x5, x6, -⟩ := cx
    have hA := hP.2.2.2.2 _ _ g1
    rcases g2 with rfl | ⟨rfl, -⟩
    · exact va_iald x1 x2 x6.1 (ka_one (ka_arr hA (by decide)).2.2) 0 0 rfl rfl g3 hd (kk ls hL)
    · obtain ⟨scr, h1, h2, h3, h4, h5⟩ := ka_old hA (by decide)
      exact W.iald (v := .int (f _)) x1 x2 h1 (State.isArrayOf_alike x6.2.1 h2) h3 (by rw [h4]; exact g3) (h5 _ (Nat.not_le.mp fun q => g3 (Or.inr q))) rfl rfl hd (kk ls hL)
  · cases hb
theorem ks_bald {K : ka_K β} (hd : decode cc pc = .ok (.baload, 1)) (hk : ka_S own cc nL nm FR LO cv (pc + 1) K) : ka_S own cc nL nm FR LO cv pc (ki_ld 1 K) := by
  refine ks_step fun L S h b hb => ?_
  unfold ki_ld at hb
  split at hb
  · obtain ⟨x, hx, hb⟩ := Option.bind_eq_some_iff.mp hb
    obtain ⟨k, n, f, g1, g2, g3, rfl⟩ := ka_ld_spec hx
    refine ⟨_, K, L, _, hk, hb, fun D p l e R s m args below meth c Q cells slots cx H locs ls hP hL kk => ?_⟩
    obtain ⟨x1, x2, x3, x4, x5, x6, -⟩ := cx
    have hA := hP.2.2.2.2 _ _ g1
    rcases g2 with rfl | ⟨-, q⟩
    · exact va_bald x1 x2 x6.1 (ka_one (ka_arr hA (by decide)).2.2) 0 1 rfl rfl g3 hd (kk ls hL)
    · cases q
  · cases hb
theorem ks_zald {K : ka_K β} (hd : decode cc pc = .ok (.baload, 1)) (hk : ka_S own cc nL nm FR LO cv (pc + 1) K) : ka_S own cc nL nm FR LO cv pc (ki_ld 2 K) := by
  refine ks_step fun L S h b hb => ?_
  unfold ki_ld at hb
  split at hb
  · obtain ⟨x, hx, hb⟩ := Option.bind_eq_some_iff.mp hb
    obtain ⟨k, n, f, g1, g2, g3, rfl⟩ := ka_ld_spec hx
    refine ⟨_, K, L, _, hk, hb, fun D p l e R s m args below meth c Q cells slots cx H locs ls hP hL kk => ?_⟩
    obtain ⟨x1, x2, x3, x4, x5, x6, -⟩ := cx
    have hA := hP.2.2.2.2 _ _ g1
    rcases g2 with rfl | ⟨-, q⟩
    · exact va_zald x1 x2 x6.1 (ka_one (ka_arr hA (by decide)).2.2) 0 2 rfl rfl g3 hd (kk ls hL)
    · cases q
  · cases hb
def ki_aald (K : ka_K β) : ka_K β := fun L S h => match S with
  | .int i :: .ref a :: S => (ka_la h a i).bind fun x => K L (.ref x :: S) h
  | _ => none
theorem ks_aald {K : ka_K β} (hd : decode cc pc = .ok (.aaload, 1)) (hk : ka_S own cc nL nm FR LO cv (pc + 1) K) : ka_S own cc nL nm FR LO cv pc (ki_aald K) := by
  refine ks_step fun L S h b hb => ?_
  unfold ki_aald at hb
  split at hb
  · next i a S =>
    obtain ⟨x, hx, hb⟩ := Option.bind_eq_some_iff.mp hb
    unfold ka_la at hx
    split at hx
    · next k n g g1 =>
      split at hx
      · next hc =>
        refine ⟨_, K, L, _, hk, hb, fun D p l e R s m args below meth c Q cells slots cx H locs ls hP hL kk => ?_⟩
        obtain ⟨x1, x2, x3, x4, x5, x6, -⟩ := cx
        obtain ⟨w1, w2, w3⟩ := ka_arr (hP.2.2.2.2 _ _ g1) (by omega)
        obtain ⟨ty, t1, t2⟩ := ka_tyr hc.1.1 hc.1.2
        have hlt : i.toNatClampNeg < n := Nat.not_le.mp fun q => hc.2 (Or.inr q)
        exact W.aald (v := .ref x) (ty := ty) x1 x2 w3 ((x6.1.2 k _ (ka_tys_at t1)).1 n (fun j => va_rf (g j))) t2 (fun q => by cases q) (by show ¬ (i < 0 ∨ (arrV _ _ _).slots.size ≤ _); rw [arrV_size]; exact hc.2) (by show (arrV _ _ _).slots[_]? = _; rw [arrV_read _ _ hlt, hx]; rfl) rfl rfl hd (kk ls hL)
      · cases hx
    · cases hx
  · cases hb
def ki_alen (K : ka_K β) : ka_K β := fun L S h => match S with
  | .ref a :: S => (ka_ln h a).bind fun n => K L (.int (nI n) :: S) h
  | _ => none
theorem ks_alen {K : ka_K β} (hd : decode cc pc = .ok (.arraylength, 1)) (hk : ka_S own cc nL nm FR LO cv (pc + 1) K) : ka_S own cc nL nm FR LO cv pc (ki_alen K) := by
  refine ks_step fun L S h b hb => ?_
  unfold ki_alen at hb
  split at hb
  · next a S =>
    obtain ⟨n, hx, hb⟩ := Option.bind_eq_some_iff.mp hb
    unfold ka_ln at hx
    split at hx
    · next k n' ct g1 =>
      cases hx
      refine ⟨_, K, L, _, hk, hb, fun D p l e R s m args below meth c Q cells slots cx H locs ls hP hL kk => ?_⟩
      obtain ⟨x1, x2, x3, x4, x5, x6, -⟩ := cx
      have hA := hP.2.2.2.2 _ _ g1
      by_cases h50 : k < 50
      · obtain ⟨w1, w2, w3⟩ := ka_arr hA h50
        obtain ⟨ty, t1⟩ := ka_tya w1
        have ht := ka_tys_at (D := D) t1
        rcases ct with f | g
        · exact va_alen (v := nI n) x1 x2 x6.1 (ka_one w3) 0 k rfl ht rfl hd (kk ls hL)
        · exact va_alen (v := nI n) x1 x2 x6.1 (ka_one w3) 0 k rfl ht rfl hd (kk ls hL)
      · simp only [ka_at] at hA
        rw [if_neg h50] at hA
        rcases ct with f | g
        · obtain ⟨-, scr, h1, h2, h3, h4, h5⟩ := hA
          exact W.alen (n := nI n) x1 x2 h1 (State.isArrayOf_alike x6.2.1 h2) (by rw [h4]; rfl) rfl rfl hd (kk ls hL)
        · obtain ⟨-, h0, cell, h1, h2, h3, h4, h5⟩ := hA
          exact W.alen (n := nI n) x1 x2 h1 (State.isArrayOf_alike x6.2.1 h2) (by rw [h5, h0]; rfl) rfl rfl hd (kk ls hL)
    · cases hx
  · cases hb
/-! stores -/
theorem ka_sd_spec {kd : Nat} {h h' : ka_H} {a : Nat} {i x : Int32} (e : ka_sd kd h a i x = some h') : ∃ (n : Nat) (f : Nat → Int32), h.1 a = some (.inl (kd, n, .inl f)) ∧ ¬ (i < 0 ∨ n ≤ i.toNatClampNeg) ∧ h' = (ka_up h.1 a (.inl (kd, n, .inl (upd f i.toNatClampNeg x))), h.2) := by
  unfold ka_sd at e
  split at e
  · next k n f hx =>
    split at e
    · next hc => obtain ⟨rfl, hc⟩ := hc; cases e; exact ⟨n, f, hx, hc, rfl⟩
    · cases e
  · cases e
theorem ka_upd_at {D : ka_D} {a kd n : Nat} {f : Nat → Int32} {j : Nat} {x : Int32} {H1 : Heap} (e : H1[a]? = some ((vp_cell (D.2.1 kd) (n, .inl f)).setSlot j (.int x))) : va_at D.1 ka_cl (a, ka_e D (.inl (kd, n, .inl (upd f j x)))) H1 := by
  show H1[a]? = some (vp_cell _ _)
  rw [e, vp_cell_i, vp_cell_i, arrV_store]
  congr 2
  funext q
  by_cases hq : q = j
  · subst hq; simp [updV, upd]
  · simp [updV, upd, hq]
def ki_iast (K : ka_K β) : ka_K β := fun L S h => match S with
  | .int x :: .int i :: .ref a :: S => (ka_sd 0 h a i x).bind fun h' => K L S h'
  | _ => none
theorem ks_iast {K : ka_K β} (hd : decode cc pc = .ok (.iastore, 1)) (hk : ka_S own cc nL nm FR LO cv (pc + 1) K) : ka_S own cc nL nm FR LO cv pc (ki_iast K) := by
  refine ks_heap fun L S h b hb => ?_
  unfold ki_iast at hb
  split at hb
  · next x i a S =>
    obtain ⟨h', hx, hb⟩ := Option.bind_eq_some_iff.mp hb
    obtain ⟨n, f, g1, g2, rfl⟩ := ka_sd_spec hx
    refine ka_put_step (by rfl) hk hb fun D p l e R s m args below meth c Q cells slots cx H locs ls hP hl kk => ?_
    obtain ⟨x1, x2, x3, x4, x5, x6, -⟩ := cx
    obtain ⟨w1, w2, w3⟩ := ka_arr (hP.2.2.2.2 _ _ g1) (by decide)
    refine W.iast x1 x2 w3 ((x6.1.2 0 _ (ka_tys_at rfl)).1 n (fun j => .int (f j))) (fun q => by cases q) (by show ¬ (i < 0 ∨ (arrV _ _ _).slots.size ≤ _); rw [arrV_size]; exact g2) rfl rfl hd fun H1 e1 z oq => ?_
    exact kk H1 _ (hP.put w2 z oq (ka_arr_of w1 w2 (ka_upd_at e1))) (ka_locs hl w2)
  · cases hb
def ki_bast (K : ka_K β) : ka_K β := fun L S h => match S with
  | .int x :: .int i :: .ref a :: S => (ka_sd 1 h a i x.toInt8.toInt32).bind fun h' => K L S h'
  | _ => none
theorem ks_bast {K : ka_K β} (hd : decode cc pc = .ok (.bastore, 1)) (hk : ka_S own cc nL nm FR LO cv (pc + 1) K) : ka_S own cc nL nm FR LO cv pc (ki_bast K) := by
  refine ks_heap fun L S h b hb => ?_
  unfold ki_bast at hb
  split at hb
  · next x i a S =>
    obtain ⟨h', hx, hb⟩ := Option.bind_eq_some_iff.mp hb
    obtain ⟨n, f, g1, g2, rfl⟩ := ka_sd_spec hx
    refine ka_put_step (by rfl) hk hb fun D p l e R s m args below meth c Q cells slots cx H locs ls hP hl kk => ?_
    obtain ⟨x1, x2, x3, x4, x5, x6, -⟩ := cx
    obtain ⟨w1, w2, w3⟩ := ka_arr (hP.2.2.2.2 _ _ g1) (by decide)
    refine W.bast x1 x2 w3 ((x6.1.2 1 _ (ka_tys_at rfl)).1 n (fun j => .int (f j))) (fun q => by cases q) (by show ¬ (i < 0 ∨ (arrV _ _ _).slots.size ≤ _); rw [arrV_size]; exact g2) rfl rfl hd fun H1 e1 z oq => ?_
    exact kk H1 _ (hP.put w2 z oq (ka_arr_of w1 w2 (ka_upd_at e1))) (ka_locs hl w2)
  · cases hb
def ki_zast (K : ka_K β) : ka_K β := fun L S h => match S with
  | .int x :: .int i :: .ref a :: S => if x = iI 0 ∨ x = iI 1 then (ka_sd 2 h a i x).bind fun h' => K L S h' else none
  | _ => none
theorem ks_zast {K : ka_K β} (hd : decode cc pc = .ok (.bastore, 1)) (hk : ka_S own cc nL nm FR LO cv (pc + 1) K) : ka_S own cc nL nm FR LO cv pc (ki_zast K) := by
  refine ks_heap fun L S h b hb => ?_
  unfold ki_zast at hb
  rw [iI_0, iI_1] at hb
  split at hb
  · next x i a S =>
    split at hb
    · next hz =>
      obtain ⟨h', hx, hb⟩ := Option.bind_eq_some_iff.mp hb
      obtain ⟨n, f, g1, g2, rfl⟩ := ka_sd_spec hx
      refine ka_put_step (by rfl) hk hb fun D p l e R s m args below meth c Q cells slots cx H locs ls hP hl kk => ?_
      obtain ⟨x1, x2, x3, x4, x5, x6, -⟩ := cx
      obtain ⟨w1, w2, w3⟩ := ka_arr (hP.2.2.2.2 _ _ g1) (by decide)
      refine W.zast x1 x2 w3 ((x6.1.2 2 _ (ka_tys_at rfl)).1 n (fun j => .int (f j))) (fun q => by cases q) (by show ¬ (i < 0 ∨ (arrV _ _ _).slots.size ≤ _); rw [arrV_size]; exact g2) rfl rfl hd fun H1 e1 z oq => ?_
      have hnz : narrow .boolean (.int x) = .int x := by rcases hz with rfl | rfl <;> rfl
      rw [hnz] at e1
      exact kk H1 _ (hP.put w2 z oq (ka_arr_of w1 w2 (ka_upd_at e1))) (ka_locs hl w2)
    · cases hb
  · cases hb
theorem ka_upq_at {D : ka_D} {a kd n : Nat} {f : Nat → Option Nat} {j : Nat} {x : Option Nat} {H1 : Heap} (e : H1[a]? = some ((vp_cell (D.2.1 kd) (n, .inr (.inr (.inr (.inr f))))).setSlot j (va_rf x))) : va_at D.1 ka_cl (a, ka_e D (.inl (kd, n, .inr (va_up f j x)))) H1 := by
  show H1[a]? = some (vp_cell _ _)
  rw [e, vp_cell_q, vp_cell_q, arrV_store]
  congr 2
  funext q
  by_cases hq : q = j
  · subst hq; simp [updV, va_up]
  · simp [updV, va_up, hq]
theorem ka_cast6 : Cond.castable "CellRows$Cell" "java/lang/Object" ∈ ka_nw := ka_nw_mem q2057 rfl
theorem ka_cast10 : Cond.castable "CellRows$Run" "java/lang/Object" ∈ ka_nw := ka_nw_mem q2066 rfl
theorem ka_asg {D : ka_D} {s : State} {k c : Nat} (hU : ka_U D s) (h : ka_takes k c = true) : ∃ (kA kcomp : Class) (comp : ClassId) (t : FieldType), s.vm.classes[D.2.1 k]? = some kA ∧ kA.kind = .array comp t ∧ t.isReference = true ∧ s.vm.classes[comp]? = some kcomp ∧ s.vm.assignable (D.1.1 c) comp = true ∧ ∃ kv : Class, s.vm.classes[D.1.1 c]? = some kv := by
  have same : ∀ (C : String) (q : vw_C), ka_cl[c]? = some q → ka_ty[k]? = some (.object C) → q.1 = C → ∃ (kA kcomp : Class) (comp : ClassId) (t : FieldType), s.vm.classes[D.2.1 k]? = some kA ∧ kA.kind = .array comp t ∧ t.isReference = true ∧ s.vm.classes[comp]? = some kcomp ∧ s.vm.assignable (D.1.1 c) comp = true ∧ ∃ kv : Class, s.vm.classes[D.1.1 c]? = some kv := by
    intro C q h1 h2 h3
    have hcls := (hU.1.1 c q h1).2
    obtain ⟨kA, comp, k1, k2, k3, -⟩ := (hU.1.2 k _ (ka_tys_at h2)).2
    have hcomp : comp = D.1.1 c := Option.some.inj (k3.symm.trans (by rw [← h3]; exact hcls.1))
    subst hcomp
    obtain ⟨kC, hkC, -⟩ := hcls.2
    exact ⟨kA, kC, _, _, k1, k2, rfl, hkC, va_assign hcls, kC, hkC⟩
  have obj : ∀ (C : String) (q : vw_C), ka_cl[c]? = some q → k = 9 → q.1 = C → Cond.castable C "java/lang/Object" ∈ ka_nw → ∃ (kA kcomp : Class) (comp : ClassId) (t : FieldType), s.vm.classes[D.2.1 k]? = some kA ∧ kA.kind = .array comp t ∧ t.isReference = true ∧ s.vm.classes[comp]? = some kcomp ∧ s.vm.assignable (D.1.1 c) comp = true ∧ ∃ kv : Class, s.vm.classes[D.1.1 c]? = some kv := by
    intro C q h1 h2 h3 h4
    subst h2
    have hcls := (hU.1.1 c q h1).2
    obtain ⟨kA, comp, k1, k2, k3, -⟩ := (hU.1.2 9 _ (ka_tys_at rfl)).2
    obtain ⟨c0, t0, f1, f2, f3⟩ := Cond.castable_spec (va_Nw.use (A := #[]) rfl (hU.2.2 _ h4))
    cases k3.symm.trans f2
    have e0 : c0 = D.1.1 c := Option.some.inj (f1.symm.trans (by rw [← h3]; exact hcls.1))
    subst e0
    obtain ⟨kC, hkC, -⟩ := hcls.2
    obtain ⟨hlt, -, -⟩ := Array.findIdx?_eq_some_iff_getElem.mp k3
    exact ⟨kA, s.vm.classes[comp], _, _, k1, k2, rfl, Array.getElem?_eq_getElem hlt, f3, kC, hkC⟩
  unfold ka_takes at h
  split at h
  · have e : c = 7 := by simpa using h
    subst e; exact same _ _ rfl rfl rfl
  · have e : c = 6 := by simpa using h
    subst e; exact same _ _ rfl rfl rfl
  · have e : c = 8 := by simpa using h
    subst e; exact same _ _ rfl rfl rfl
  · have e : c = 9 := by simpa using h
    subst e; exact same _ _ rfl rfl rfl
  · have e : c = 5 := by simpa using h
    subst e; exact same _ _ rfl rfl rfl
  · have e : c = 6 ∨ c = 10 := by simpa using h
    rcases e with rfl | rfl
    · exact obj _ _ rfl rfl rfl ka_cast6
    · exact obj _ _ rfl rfl rfl ka_cast10
  · cases h
def ki_aast (K : ka_K β) : ka_K β := fun L S h => match S with
  | .ref v :: .int i :: .ref a :: S => (ka_sa h a i v).bind fun h' => K L S h'
  | .null :: .int i :: .ref a :: S => (ka_sn h a i).bind fun h' => K L S h'
  | _ => none
theorem ka_takes_lt {k c : Nat} (h : ka_takes k c = true) : k < 10 := by
  unfold ka_takes at h
  split at h <;> first | omega | cases h
theorem ks_aast {K : ka_K β} (hd : decode cc pc = .ok (.aastore, 1)) (hk : ka_S own cc nL nm FR LO cv (pc + 1) K) : ka_S own cc nL nm FR LO cv pc (ki_aast K) := by
  refine ks_heap fun L S h b hb => ?_
  unfold ki_aast at hb
  split at hb
  · next v i a S =>
    obtain ⟨h', hx, hb⟩ := Option.bind_eq_some_iff.mp hb
    unfold ka_sa at hx
    split at hx
    · next k n g g1 =>
      split at hx
      · next cls fs g2 =>
        split at hx
        · next hc =>
          cases hx
          refine ka_put_step (by rfl) hk hb fun D p l e R s m args below meth c Q cells slots cx H locs ls hP hl kk => ?_
          obtain ⟨x1, x2, x3, x4, x5, x6, -⟩ := cx
          obtain ⟨w1, w2, w3⟩ := ka_arr (hP.2.2.2.2 _ _ g1) (by have := ka_takes_lt hc.1; omega)
          obtain ⟨-, r', hr', cellV, v1, v2, v3, -⟩ := hP.2.2.2.2 _ _ g2
          obtain ⟨kA, kcomp, comp, t, a1, a2, a3, a4, a5, kv, a6⟩ := ka_asg x6 hc.1
          have hlt : i.toNatClampNeg < n := Nat.not_le.mp fun q => hc.2 (Or.inr q)
          refine W.aast x1 x2 w3 (fun q h => by cases h) (fun h => by cases h) a1 a2 a3 a4 ⟨fun q => hc.2 (Or.inl q), by show _ < (arrV _ _ _).slots.size; rw [arrV_size]; exact hlt⟩ v1 (fun q h => by rw [v3] at h; cases h) (by rw [v2]; exact a6) (by rw [v2]; exact a5) rfl rfl hd fun H1 e1 z oq => ?_
          exact kk H1 _ (hP.put w2 z oq (ka_arr_of w1 w2 (ka_upq_at (x := some v) e1))) (ka_locs hl w2)
        · cases hx
      · cases hx
    · cases hx
  · next i a S =>
    obtain ⟨h', hx, hb⟩ := Option.bind_eq_some_iff.mp hb
    unfold ka_sn at hx
    split at hx
    · next k n g g1 =>
      split at hx
      · next hc =>
        obtain ⟨rfl, hc⟩ := hc
        cases hx
        refine ka_put_step (by rfl) hk hb fun D p l e R s m args below meth c Q cells slots cx H locs ls hP hl kk => ?_
        obtain ⟨x1, x2, x3, x4, x5, x6, -⟩ := cx
        obtain ⟨w1, w2, w3⟩ := ka_arr (hP.2.2.2.2 _ _ g1) (by decide)
        refine va_WaastN (C := "java/lang/Object") x1 x2 w3 ((x6.1.2 9 _ (ka_tys_at rfl)).1 n (fun j => va_rf (g j))) (fun h => by cases h) (by show ¬ (i < 0 ∨ (arrV _ _ _).slots.size ≤ _); rw [arrV_size]; exact hc) rfl rfl hd fun H1 e1 z oq => ?_
        exact kk H1 _ (hP.put w2 z oq (ka_arr_of w1 w2 (ka_upq_at (x := none) e1))) (ka_locs hl w2)
      · cases hx
    · cases hx
  · cases hb
end KQ
