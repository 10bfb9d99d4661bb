/-! ===== new cells, statics, casts, returns, calls ===== -/
/-- what lies under a call's arguments is short -/
def ka_w8 (S : List Value) : Bool := decide ((S.map fun v => v.category).sum ≤ 8)
theorem ka_w8_spec {S : List Value} (h : ka_w8 S = true) : (S.map fun v => v.category).sum ≤ 8 := of_decide_eq_true h
/-- the object at a is of one of these classes -/
def ka_isc (h : ka_H) (cs : List Nat) (a : Nat) : Bool := match h.1 a with
  | some (.inr (c, _)) => cs.contains c
  | _ => false
theorem ka_isc_spec {h : ka_H} {cs : List Nat} {a : Nat} (e : ka_isc h cs a = true) : ∃ (c : Nat) (fs : List Value), h.1 a = some (.inr (c, fs)) ∧ c ∈ cs := by
  unfold ka_isc at e
  split at e
  · next c fs hx => exact ⟨c, fs, hx, by simpa using e⟩
  · cases e
theorem ka_recv {D : ka_D} {s : State} {h : ka_H} {H : Heap} {a c : Nat} {fs : List Value} {q : vw_C} (hU : ka_U D s) (hP : ka_P D h H) (e : h.1 a = some (.inr (c, fs))) (hc : ka_cl[c]? = some q) : ∃ cell : Cell, H[a]? = some cell ∧ cell.vm.isStatics = false ∧ s.vm.findClass q.1 = some cell.cls := by
  obtain ⟨-, r, hr, cell, q1, q2, q3, -⟩ := hP.2.2.2.2 _ _ e
  exact ⟨cell, q1, by rw [q3]; rfl, by rw [q2]; exact (hU.1.1 c q hc).2.1⟩
def ka_cvI (b : Int32 × ka_H) : Option Value × ka_H := (some (.int b.1), b.2)
def ka_cvZ (b : Bool × ka_H) : Option Value × ka_H := (some (.int (if b.1 = true then iI 1 else iI 0)), b.2)
def ka_cvR (b : Nat × ka_H) : Option Value × ka_H := (some (.ref b.1), b.2)
def ka_cvQ (b : Option Nat × ka_H) : Option Value × ka_H := (some (va_rf b.1), b.2)
def ka_cvV (b : ka_H) : Option Value × ka_H := (none, b)
section KN
variable {own : String} {cc : ByteArray} {nL : Nat} {nm : String} {FR LO : Nat} {β : Type} {cv : β → Option Value × ka_H} {pc : Nat}
/-- code that is never reached -/
def ki_stop : ka_K β := fun _ _ _ => none
theorem ks_stop : ka_S own cc nL nm FR LO cv pc ki_stop := fun L S h b hb => by cases hb
/-! returns -/
def ki_iret : ka_K (Int32 × ka_H) := fun _ S h => match S with
  | [.int x] => some (x, h)
  | _ => none
def ki_zret : ka_K (Bool × ka_H) := fun _ S h => match S with
  | [.int x] => if x = iI 0 then some (false, h) else if x = iI 1 then some (true, h) else none
  | _ => none
def ki_aret : ka_K (Nat × ka_H) := fun _ S h => match S with
  | [.ref x] => some (x, h)
  | _ => none
def ki_qret : ka_K (Option Nat × ka_H) := fun _ S h => match S with
  | [.ref x] => some (some x, h)
  | [.null] => some (none, h)
  | _ => none
def ki_vret : ka_K ka_H := fun _ S h => match S with
  | [] => some h
  | _ => none
theorem ka_ret {k : ka_K β} (hk : ∀ (L : ka_L) (S : List Value) (h : ka_H) (b : β), k L S h = some b → (cv b).2 = h ∧ S = (cv b).1.toList ∧ ka_rd cc pc (cv b).1) : ka_S own cc nL nm FR LO cv pc k := by
  intro L S h b hb
  obtain ⟨e1, e2, e3⟩ := hk L S h b hb
  refine ⟨by rw [e1]; exact ⟨Nat.le_refl _, Nat.le_refl _, rfl⟩, fun D p l e R s m args below meth c nb sb Q cx n1 n2 n3 n4 fin H locs ls hP hl hL => ?_⟩
  have := fin H locs pc ls (by rw [e1]; exact hP) hl e3
  rw [e1, ← e2] at this
  exact this
theorem ks_iret (hd : decode cc pc = .ok (.ireturn, 1)) : ka_S own cc nL nm FR LO ka_cvI pc ki_iret := ka_ret fun L S h b hb => by
  unfold ki_iret at hb
  split at hb
  · cases hb; exact ⟨rfl, rfl, hd⟩
  · cases hb
theorem ks_zret (hd : decode cc pc = .ok (.ireturn, 1)) : ka_S own cc nL nm FR LO ka_cvZ pc ki_zret := ka_ret fun L S h b hb => by
  unfold ki_zret at hb
  split at hb
  · split at hb
    · next hx => subst hx; cases hb; exact ⟨rfl, rfl, hd⟩
    · split at hb
      · next hx => subst hx; cases hb; exact ⟨rfl, rfl, hd⟩
      · cases hb
  · cases hb
theorem ks_aret (hd : decode cc pc = .ok (.areturn, 1)) : ka_S own cc nL nm FR LO ka_cvR pc ki_aret := ka_ret fun L S h b hb => by
  unfold ki_aret at hb
  split at hb
  · cases hb; exact ⟨rfl, rfl, hd⟩
  · cases hb
theorem ks_qret (hd : decode cc pc = .ok (.areturn, 1)) : ka_S own cc nL nm FR LO ka_cvQ pc ki_qret := ka_ret fun L S h b hb => by
  unfold ki_qret at hb
  split at hb
  · cases hb; exact ⟨rfl, rfl, hd⟩
  · cases hb; exact ⟨rfl, rfl, hd⟩
  · cases hb
theorem ks_vret (hd : decode cc pc = .ok (.return_, 1)) : ka_S own cc nL nm FR LO ka_cvV pc ki_vret := ka_ret fun L S h b hb => by
  unfold ki_vret at hb
  split at hb
  · cases hb; exact ⟨rfl, rfl, hd⟩
  · cases hb
/-! new cells -/
theorem ka_new_step {K : ka_K β} {L : ka_L} {S S0 : List Value} {h : ka_H} {b : β} {pc' n : Nat} {x : ka_C} (hk : ka_S own cc nL nm FR LO cv pc' K) (hb : K L S (ka_mk h x n) = some b)
    (hW : ∀ (D : ka_D) (p : Program) (l : Launch) (e : Env) (R : Room) (s : State) (m : MethodId) (args : Array Value) (below : List Frame) (meth : Method) (c : Code) (Q : State → Prop) (cells slots : Nat), ka_Cx D own cc nL nm FR LO p R s m args meth c → cells + 1 ≤ R.cells → slots + n ≤ R.slots → ∀ (H : Heap) (locs : List Loc) (ls : Array Slot), ka_P D h H → (∀ H' : Heap, ka_P D (ka_mk h x n) H' → W p l e R s m args below meth c H' locs (cells + 1) (slots + n) Q (F0 m pc' ls S)) → W p l e R s m args below meth c H locs cells slots Q (F0 m pc ls S0)) :
    ∃ (pc' : Nat) (k' : ka_K β) (L' : ka_L) (S' : List Value) (h' : ka_H), ka_S own cc nL nm FR LO cv pc' k' ∧ k' L' S' h' = some b ∧ h.2.1 ≤ h'.2.1 ∧ h.2.2.1 ≤ h'.2.2.1 ∧ h'.2.2.2 = h.2.2.2 ∧
    ∀ (D : ka_D) (p : Program) (l : Launch) (e : Env) (R : Room) (s : State) (m : MethodId) (args : Array Value) (below : List Frame) (meth : Method) (c : Code) (Q : State → Prop) (cells slots : Nat), ka_Cx D own cc nL nm FR LO p R s m args meth c → cells + (h'.2.1 - h.2.1) ≤ R.cells → slots + (h'.2.2.1 - h.2.2.1) ≤ R.slots →
      ∀ (H : Heap) (locs : List Loc) (ls : Array Slot), ka_P D h H → (∀ q ∈ locs, D.2.2.heap.size ≤ q.base) → ka_lr ls nL L → (∀ (H' : Heap) (locs' : List Loc) (ls' : Array Slot), ka_P D h' H' → (∀ q ∈ locs', D.2.2.heap.size ≤ q.base) → ka_lr ls' nL L' → W p l e R s m args below meth c H' locs' (cells + (h'.2.1 - h.2.1)) (slots + (h'.2.2.1 - h.2.2.1)) Q (F0 m pc' ls' S')) → W p l e R s m args below meth c H locs cells slots Q (F0 m pc ls S0) := by
  have e1 : (ka_mk h x n).2.1 - h.2.1 = 1 := by show h.2.1 + 1 - h.2.1 = 1; omega
  have e2 : (ka_mk h x n).2.2.1 - h.2.2.1 = n := by show h.2.2.1 + n - h.2.2.1 = n; omega
  refine ⟨pc', K, L, S, ka_mk h x n, hk, hb, Nat.le_succ _, Nat.le_add_right _ _, rfl, fun D p l e R s m args below meth c Q cells slots cx r1 r2 H locs ls hP hl hL kk => ?_⟩
  rw [e1] at r1
  rw [e2] at r2
  refine hW D p l e R s m args below meth c Q cells slots cx r1 r2 H locs ls hP (fun H' hP' => ?_)
  have := kk H' locs ls hP' hl hL
  rw [e1, e2] at this
  exact this
def ki_new (ci : Nat) (fs : List Value) (K : ka_K β) : ka_K β := fun L S h => K L (.ref h.2.1 :: S) (ka_mk h (.inr (ci, fs)) fs.length)
theorem ks_new {K : ka_K β} {index ci : Nat} {fs : List Value} {C : String} {T : u_T} {N : Nat} (ty : Nat → FieldType) (hd : decode cc pc = .ok (.new index, 3)) (hc : ka_cl[ci]? = some (C, T, N)) (hin : ∀ w ∈ u_ws C T N, w ∈ lw_all) (hty : ∀ k, k < N → parseFieldDescriptor (T k).2.2.1 = some (ty k)) (h1 : Cond.classLink own index C ∈ lw_all) (h2 : Cond.instantiable C N ∈ lw_all) (h3 : Cond.initialized C ∈ lw_all) (hN : fs.length = N) (hfs : ∀ j, j < N → defaultValue (ty j) = vp_V fs j)
    (hk : ka_S own cc nL nm FR LO cv (pc + 3) K) : ka_S own cc nL nm FR LO cv pc (ki_new ci fs K) := by
  refine ks_heap fun L S h b hb => ?_
  subst hN
  refine ka_new_step hk hb fun D p l e R s m args below meth c Q cells slots cx r1 r2 H locs ls hP kk => ?_
  obtain ⟨x1, x2, x3, x4, x5, x6, -⟩ := cx
  have hKn := x6.1.1 ci _ hc
  refine W.newcK x1 x2 x4 (x5 _ h1) (x5 _ h2) (x5 _ h3) rfl hd r1 r2 hKn.2.1 rfl fun H1 kC hkC e1 z1 o1 => ?_
  have := kk H1 (hP.push z1 o1 ⟨hP.2.1, ⟨_, hc, (u_born ty x5 hin hKn hkC e1 hty).to hfs⟩⟩)
  rw [← hP.1] at this
  exact this
/-- the kinds of arrays of numbers -/
def ka_at0 (kd : Nat) : ArrayType := match kd with
  | 0 => .int
  | 1 => .byte
  | _ => .boolean
def ki_newi (kd : Nat) (K : ka_K β) : ka_K β := fun L S h => match S with
  | .int n :: S => if n < 0 ∨ 100000 < n.toNatClampNeg then none else K L (.ref h.2.1 :: S) (ka_mk h (.inl (kd, n.toNatClampNeg, .inl fun _ => 0)) n.toNatClampNeg)
  | _ => none
theorem ks_newi {K : ka_K β} {ty : FieldType} (kd : Nat) (hkd : kd < 3) (hty : ka_ty[kd]? = some ty) (hd : decode cc pc = .ok (.newarray (ka_at0 kd), 2)) (hq : Cond.arrayClass ty ∈ lw_all) (hk : ka_S own cc nL nm FR LO cv (pc + 2) K) : ka_S own cc nL nm FR LO cv pc (ki_newi kd K) := by
  refine ks_heap fun L S h b hb => ?_
  unfold ki_newi at hb
  split at hb
  · next n S =>
    split at hb
    · cases hb
    · next hn =>
      refine ka_new_step hk hb fun D p l e R s m args below meth c Q cells slots cx r1 r2 H locs ls hP kk => ?_
      obtain ⟨x1, x2, x3, x4, x5, x6, -⟩ := cx
      have hty0 : newarray.typeOf (ka_at0 kd) = ty := by
        match kd, hkd, hty with
        | 0, _, h => cases h; rfl
        | 1, _, h => cases h; rfl
        | 2, _, h => cases h; rfl
      have hdef : defaultValue ty = .int 0 := by
        match kd, hkd, hty with
        | 0, _, h => cases h; rfl
        | 1, _, h => cases h; rfl
        | 2, _, h => cases h; rfl
      have hby : componentBytes ty ≤ 8 := by
        match kd, hkd, hty with
        | 0, _, h => cases h; decide
        | 1, _, h => cases h; decide
        | 2, _, h => cases h; decide
      have hra := (x6.1.2 kd _ (ka_tys_at hty)).2
      have hnm : s.vm.findClass ("[" ++ ty.toString) = some (D.2.1 kd) := by
        match kd, hkd, hty with
        | 0, _, h => cases h; exact hra
        | 1, _, h => cases h; exact hra
        | 2, _, h => cases h; exact hra
      refine va_newaK x1 x2 (by rw [hty0]; exact x5 _ hq) rfl hd rfl (fun q => hn (Or.inl q)) rfl (by
        rw [hty0]
        have h1 : n.toNatClampNeg ≤ 100000 := Nat.not_lt.mp fun q => hn (Or.inr q)
        exact Nat.le_trans (Nat.mul_le_mul h1 hby) (Nat.le_of_ble_eq_true rfl)) r1 r2 rfl fun H1 cA e1 z1 o1 hAr hNm => ?_
      rw [hty0] at e1 hNm
      have hcA : cA = D.2.1 kd := Option.some.inj (hNm.symm.trans hnm)
      subst hcA
      rw [hdef] at e1
      have := kk H1 (hP.push z1 o1 (ka_arr_of (by omega) hP.2.1 e1))
      rw [← hP.1] at this
      exact this
  · cases hb
def ki_newr (kd : Nat) (K : ka_K β) : ka_K β := fun L S h => match S with
  | .int n :: S => if n < 0 ∨ 100000 < n.toNatClampNeg then none else K L (.ref h.2.1 :: S) (ka_mk h (.inl (kd, n.toNatClampNeg, .inr fun _ => none)) n.toNatClampNeg)
  | _ => none
theorem ks_newr {K : ka_K β} {C : String} {index : Nat} (kd : Nat) (hkd : kd < 10) (hty : ka_ty[kd]? = some (.object C)) (hd : decode cc pc = .ok (.anewarray index, 3)) (hq : Cond.classLink own index C ∈ lw_all) (hov : Cond.arrayOver (.object C) ∈ lw_tbl) (hk : ka_S own cc nL nm FR LO cv (pc + 3) K) : ka_S own cc nL nm FR LO cv pc (ki_newr kd K) := by
  refine ks_heap fun L S h b hb => ?_
  unfold ki_newr at hb
  split at hb
  · next n S =>
    split at hb
    · cases hb
    · next hn =>
      refine ka_new_step hk hb fun D p l e R s m args below meth c Q cells slots cx r1 r2 H locs ls hP kk => ?_
      obtain ⟨x1, x2, x3, x4, x5, x6, -⟩ := cx
      obtain ⟨kA0, comp0, y1, y2, y3, y4⟩ := (x6.1.2 kd _ (ka_tys_at hty)).2
      refine W.anew x1 x2 x4 (x5 _ hq) (va_AO.use (x6.2.2 _ (ka_nw_mem hov rfl))) rfl hd rfl (fun q => hn (Or.inl q)) (by
        have h1 : n.toNatClampNeg ≤ 100000 := Nat.not_lt.mp fun q => hn (Or.inr q)
        exact Nat.le_trans (Nat.mul_le_mul_right 4 h1) (Nat.le_of_ble_eq_true rfl)) r1 r2 fun cA kA comp f1 f2 f3 f4 => ?_
      have hcA : cA = D.2.1 kd := Option.some.inj (f1.symm.trans y4)
      subst hcA
      generalize hH1 : H.push ({ cls := D.2.1 kd, slots := Array.replicate n.toNatClampNeg .null, vm := .none } : Cell) = H1
      have z1 : H1.size = H.size + 1 := by rw [← hH1, Array.size_push]
      have e1 : H1[H.size]? = some (arrV (D.2.1 kd) n.toNatClampNeg (fun _ => .null)) := by rw [← hH1, Array.getElem?_push_size, ← arrV_new]
      have o1 : ∀ q : Nat, q < H.size → H1[q]? = H[q]? := fun q hq => by rw [← hH1, Array.getElem?_push, if_neg (Nat.ne_of_lt hq)]
      have := kk H1 (hP.push z1 o1 (ka_arr_of hkd hP.2.1 e1))
      rw [← hP.1] at this
      exact this
  · cases hb
/-! statics -/
def ki_gets (i : Nat) (K : ka_K β) : ka_K β := fun L S h => K L (.ref (h.2.2.2 i) :: S) h
theorem ks_gets {K : ka_K β} {index i : Nat} {C n d : String} (hd : decode cc pc = .ok (.getstatic index, 3)) (hq : Cond.fieldLink own index C n d ∈ lw_all) (hz : ∀ (D : ka_D) (sv : Nat → Nat), ka_Z D sv → va_Z C n d (.ref (sv i)) (fun q => D.2.2.heap.size ≤ q) D.2.2 D.2.2.heap) (hk : ka_S own cc nL nm FR LO cv (pc + 3) K) : ka_S own cc nL nm FR LO cv pc (ki_gets i K) := by
  refine ks_step fun L S h b hb => ⟨_, K, L, _, hk, hb, fun D p l e R s m args below meth c Q cells slots cx H locs ls hP hL kk => ?_⟩
  obtain ⟨x1, x2, x3, x4, x5, x6, -⟩ := cx
  obtain ⟨cf, kf, fi, f, a, cell, h1, h2, h3, h4, h5, h6, h7, h8⟩ := va_Z.moved x6.2.1 (hz D h.2.2.2 hP.2.2.2.1)
  exact W.gets x1 x2 x4 (x5 _ hq) h1 h2 h3 h4 (by rw [hP.2.2.1 a (Nat.not_le.mp h8)]; exact h5) (fun e => by rw [e] at h6; cases h6) h7 rfl hd (kk ls hL)
/-! casts -/
def ki_cast (c : Nat) (K : ka_K β) : ka_K β := fun L S h => match S with
  | .ref a :: S => if ka_isc h [c] a = true then K L (.ref a :: S) h else none
  | _ => none
theorem ks_cast {K : ka_K β} {index ci : Nat} {q : vw_C} (hd : decode cc pc = .ok (.checkcast index, 3)) (hc : ka_cl[ci]? = some q) (hq : Cond.classLink own index q.1 ∈ lw_all) (hk : ka_S own cc nL nm FR LO cv (pc + 3) K) : ka_S own cc nL nm FR LO cv pc (ki_cast ci K) := by
  refine ks_step fun L S h b hb => ?_
  unfold ki_cast at hb
  split at hb
  · split at hb
    · next a S hx =>
      obtain ⟨c', fs, g1, g2⟩ := ka_isc_spec hx
      have e : c' = ci := List.mem_singleton.mp g2
      subst e
      refine ⟨_, K, L, _, hk, hb, fun D p l e R s m args below meth c Q cells slots cx H locs ls hP hL kk => ?_⟩
      obtain ⟨x1, x2, x3, x4, x5, x6, -⟩ := cx
      exact va_castS x1 x2 x4 (x5 _ hq) (x6.1.1 _ _ hc).2 (ka_recv x6 hP g1 hc) hd (kk ls hL)
    · cases hb
  · cases hb
/-! Object.<init> -/
def ki_obj (K : ka_K β) : ka_K β := fun L S h => match S with
  | .ref _ :: S => if ka_w8 S = true then K L S h else none
  | _ => none
theorem ks_obj {K : ka_K β} {index : Nat} (hd : decode cc pc = .ok (.invokespecial index, 3)) (h1 : Cond.methodLink own index Lib.objectInit ∈ lw_all) (h2 : Cond.instanceMethod Lib.objectInit ∈ lw_all) (h3 : Cond.code Lib.objectInit ⟨#[0xb1]⟩ 1 none ∈ lw_all) (hf : 1 ≤ FR) (hlo : 20 ≤ LO) (hk : ka_S own cc nL nm FR LO cv (pc + 3) K) : ka_S own cc nL nm FR LO cv pc (ki_obj K) := by
  refine ks_step fun L S h b hb => ?_
  unfold ki_obj at hb
  split at hb
  · split at hb
    · next a S hx =>
      refine ⟨_, K, L, _, hk, hb, fun D p l e R s m args below meth c Q cells slots cx H locs ls hP hL kk => ?_⟩
      obtain ⟨x1, x2, x3, x4, x5, x6, -, x8, x9, -⟩ := cx
      refine W.objInit x1 x2 x4 (x5 _ h1) (x5 _ h2) (x5 _ h3) rfl (by rw [x3]; exact hL.1) rfl hd (Nat.le_trans hf x8) ?_ (kk ls hL)
      have := ka_w8_spec hx
      show 2 * 0 + _ + 12 ≤ _
      omega
    · cases hb
  · cases hb
end KN
