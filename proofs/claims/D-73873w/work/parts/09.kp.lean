/-! ===== stores, arrays, new cells ===== -/
section KP
variable {own : String} {cc : ByteArray} {nL : Nat} {nm : String} {FR LO : Nat} {β : Type} {cv : β → Option Value × ka_H} {pc : Nat}
/-- how a method's link at an index writes field k (of a type) of objects of class c -/
def ka_G (own nm : String) (index : Nat) (fty : FieldType) (k c : Nat) : Prop := ∃ (C : String) (T : u_T) (N : Nat) (ref : String) (ty : Nat → FieldType), ka_cl[c]? = some (C, T, N) ∧ k < N ∧ (∀ w ∈ u_ws C T N, w ∈ lw_all) ∧
  (ref = (T k).1 ∨ Cond.sameField ref (T k).1 (T k).2.1 (T k).2.2.1 ∈ lw_all) ∧ ka_sep T N ∧ (∀ j, j < N → parseFieldDescriptor (T j).2.2.1 = some (ty j)) ∧ ty k = fty ∧
  (((T k).2.2.2 = false ∧ (Cond.fieldLink own index ref (T k).2.1 (T k).2.2.1 ∈ lw_all ∨ ∃ host : String, Cond.fieldLinkNest own index ref (T k).2.1 (T k).2.2.1 host ∈ ka_nw)) ∨
   ((T k).2.2.2 = true ∧ nm = "<init>" ∧ (T k).1 = own ∧ Cond.fieldLink own index ref (T k).2.1 (T k).2.2.1 ∈ lw_all))
theorem ka_G1 {own nm : String} {index k c : Nat} (C : String) (T : u_T) (N : Nat) (ty : Nat → FieldType) (hc : ka_cl[c]? = some (C, T, N)) (hk : k < N) (hin : ∀ w ∈ u_ws C T N, w ∈ lw_all) (hs : ka_sep T N) (hty : ∀ j, j < N → parseFieldDescriptor (T j).2.2.1 = some (ty j)) (hf : (T k).2.2.2 = false) (hl : Cond.fieldLink own index (T k).1 (T k).2.1 (T k).2.2.1 ∈ lw_all) : ka_G own nm index (ty k) k c := ⟨C, T, N, _, ty, hc, hk, hin, Or.inl rfl, hs, hty, rfl, Or.inl ⟨hf, Or.inl hl⟩⟩
theorem ka_GS {own nm ref : String} {index k c : Nat} (C : String) (T : u_T) (N : Nat) (ty : Nat → FieldType) (hc : ka_cl[c]? = some (C, T, N)) (hk : k < N) (hin : ∀ w ∈ u_ws C T N, w ∈ lw_all) (hs : ka_sep T N) (hty : ∀ j, j < N → parseFieldDescriptor (T j).2.2.1 = some (ty j)) (hf : (T k).2.2.2 = false) (hl : Cond.fieldLink own index ref (T k).2.1 (T k).2.2.1 ∈ lw_all) (hsm : Cond.sameField ref (T k).1 (T k).2.1 (T k).2.2.1 ∈ lw_all) : ka_G own nm index (ty k) k c := ⟨C, T, N, _, ty, hc, hk, hin, Or.inr hsm, hs, hty, rfl, Or.inl ⟨hf, Or.inl hl⟩⟩
theorem ka_GN {own nm host : String} {index k c : Nat} (C : String) (T : u_T) (N : Nat) (ty : Nat → FieldType) (hc : ka_cl[c]? = some (C, T, N)) (hk : k < N) (hin : ∀ w ∈ u_ws C T N, w ∈ lw_all) (hs : ka_sep T N) (hty : ∀ j, j < N → parseFieldDescriptor (T j).2.2.1 = some (ty j)) (hf : (T k).2.2.2 = false) (hl : Cond.fieldLinkNest own index (T k).1 (T k).2.1 (T k).2.2.1 host ∈ lw_tbl) : ka_G own nm index (ty k) k c := ⟨C, T, N, _, ty, hc, hk, hin, Or.inl rfl, hs, hty, rfl, Or.inl ⟨hf, Or.inr ⟨host, ka_nw_mem hl rfl⟩⟩⟩
theorem ka_GF {own : String} {index k c : Nat} (C : String) (T : u_T) (N : Nat) (ty : Nat → FieldType) (hc : ka_cl[c]? = some (C, T, N)) (hk : k < N) (hin : ∀ w ∈ u_ws C T N, w ∈ lw_all) (hs : ka_sep T N) (hty : ∀ j, j < N → parseFieldDescriptor (T j).2.2.1 = some (ty j)) (hf : (T k).2.2.2 = true) (ho : (T k).1 = own) (hl : Cond.fieldLink own index (T k).1 (T k).2.1 (T k).2.2.1 ∈ lw_all) : ka_G own "<init>" index (ty k) k c := ⟨C, T, N, _, ty, hc, hk, hin, Or.inl rfl, hs, hty, rfl, Or.inr ⟨hf, rfl, ho, hl⟩⟩
def ka_pf (h : ka_H) (cs : List Nat) (a k : Nat) (v : Value) : Option ka_H := match h.1 a with
  | some (.inr (c, fs)) => if cs.contains c = true ∧ k < fs.length then some (ka_up h.1 a (.inr (c, fs.set k v)), h.2) else none
  | _ => none
theorem ka_pf_spec {h h' : ka_H} {cs : List Nat} {a k : Nat} {v : Value} (e : ka_pf h cs a k v = some h') : ∃ (c : Nat) (fs : List Value), h.1 a = some (.inr (c, fs)) ∧ c ∈ cs ∧ k < fs.length ∧ h' = (ka_up h.1 a (.inr (c, fs.set k v)), h.2) := by
  unfold ka_pf at e
  split at e
  · next c fs hx =>
    split at e
    · next hc => cases e; exact ⟨c, fs, hx, by simpa using hc.1, hc.2, rfl⟩
    · cases e
  · cases e
theorem ka_locs {D : ka_D} {locs : List Loc} {a k : Nat} (hl : ∀ q ∈ locs, D.2.2.heap.size ≤ q.base) (ha : D.2.2.heap.size ≤ a) : ∀ q ∈ locs ++ [(⟨a, k⟩ : Loc)], D.2.2.heap.size ≤ q.base := by
  intro q hq
  rcases List.mem_append.mp hq with h | h
  · exact hl q h
  · rw [List.mem_singleton.mp h]; exact ha
theorem ka_Wput {D : ka_D} {p : Program} {l : Launch} {e : Env} {R : Room} {s : State} {m : MethodId} {args : Array Value} {below : List Frame} {meth : Method} {c : Code} {Q : State → Prop} {cells slots : Nat} {H : Heap} {locs : List Loc} {ls : Array Slot} {index : Nat} {cs : List Nat} {k a : Nat} {h h' : ka_H} {v : Value} {S : List Value} {fty : FieldType}
    (hd : decode cc pc = .ok (.putfield index, 3)) (hF : ∀ c ∈ cs, ka_G own nm index fty k c) (hg : ka_pf h cs a k v = some h') (hn : narrow fty v = v) (hfit : fits fty v = true) (cx : ka_Cx D own cc nL nm FR LO p R s m args meth c) (hP : ka_P D h H) (hl : ∀ q ∈ locs, D.2.2.heap.size ≤ q.base)
    (kk : ∀ (H' : Heap) (locs' : List Loc), ka_P D h' H' → (∀ q ∈ locs', D.2.2.heap.size ≤ q.base) → W p l e R s m args below meth c H' locs' cells slots Q (F0 m (pc + 3) ls S)) : W p l e R s m args below meth c H locs cells slots Q (F0 m pc ls (v :: .ref a :: S)) := by
  obtain ⟨ci, fs, g1, g2, g3, rfl⟩ := ka_pf_spec hg
  obtain ⟨C, T, N, ref, ty, f1, f2, f3, f5, f6, f7, f8, f4⟩ := hF ci g2
  obtain ⟨x1, x2, x3, x4, x5, x6, -, -, -, x10⟩ := cx
  have hap := ka_apart x5 f3 ty f7 f6 x6 f1
  obtain ⟨hA0, hA⟩ := hP.2.2.2.2 a _ g1
  obtain ⟨r, h1, cell, q1, q2, q3, q4⟩ := hA
  have hr : r = (C, T, N) := Option.some.inj (h1.symm.trans f1)
  subst hr
  obtain ⟨hS, hfc, kC, hkC, hkind⟩ := x6.1.1 ci _ f1
  obtain ⟨cf, kf, fi, f, hi, hsl⟩ := hS k f2
  have hst := (u_facts hfc hkC (u_lays x5 f3 f2) hi).1
  have hsame := ka_sameF (n := (T k).2.1) (d := (T k).2.2.1) x5 f5
  have hlay := x5 _ (f3 _ (u_in_lay f2))
  unfold u_lay at hlay
  subst f8
  have go : ∀ H' : Heap, H'[a]? = some (cell.setSlot f.slot v) → H'.size = H.size → (∀ q, q ≠ a → H'[q]? = H[q]?) → W p l e R s m args below meth c H' (locs ++ [⟨a, f.slot⟩]) cells slots Q (F0 m (pc + 3) ls S) := by
    intro H' e1 e2 e3
    rw [hsl] at e1 ⊢
    refine kk H' _ (hP.put hA0 e2 e3 ⟨hA0, ⟨_, f1, t_OB.to (V := updV (vp_V fs) k v) ⟨_, e1, q2, q3, t_set q4 hap f2 v⟩ (fun j _ => vp_updV_set g3 v j)⟩⟩) (ka_locs hl hA0)
  rcases f4 with ⟨hfin, f4⟩ | ⟨hfin, hini, hown, f4⟩
  · rw [if_neg (by rw [hfin]; decide)] at hlay
    have h6 := u_store hfc hkC hkind hlay hi (f7 k f2) hn hfit
    rcases f4 with f4 | ⟨host, f4⟩
    · exact W.putK x1 x2 (f := f) ⟨x4, x5 _ f4, ⟨_, _, _, hsame _ hi⟩, hst⟩ (by rw [q2]; exact h6) q1 q3 (by rw [hsl]; exact k2_hasslot (q4 k f2)) rfl rfl hd go
    · exact va_WputK x1 x2 (f := f) x4 (va_Nw.use rfl (x6.2.2 _ f4)) (hsame _ hi) hst (by rw [q2]; exact h6) q1 q3 (by rw [hsl]; exact k2_hasslot (q4 k f2)) rfl rfl hd go
  · rw [if_pos hfin] at hlay
    have hcf : m.cls = cf := by
      obtain ⟨_, _, c', _, _, _, -, -, hf', -, -, -, hown2, -⟩ := Cond.laysFinal_spec hlay
      have e1 : c' = cf := by have := hi.symm.trans hf'; simp at this; exact this.1.symm
      rw [hown] at hown2
      rw [← e1]; exact Option.some.inj (x4.symm.trans hown2)
    have h6 := u_fits hfc hkC hkind (Or.inr hlay) hi (f7 k f2) hn hfit
    exact W.putFinK x1 x2 x4 (x5 _ f4) (hsame _ hi) hst hcf (x10.trans hini) (by rw [q2]; exact h6) q1 q3 (by rw [hsl]; exact k2_hasslot (q4 k f2)) rfl rfl hd go
def ki_puti (cs : List Nat) (k : Nat) (K : ka_K β) : ka_K β := fun L S h => match S with
  | .int x :: .ref a :: S => (ka_pf h cs a k (.int x)).bind fun h' => K L S h'
  | _ => none
def ki_putr (cs : List Nat) (k : Nat) (K : ka_K β) : ka_K β := fun L S h => match S with
  | .ref x :: .ref a :: S => (ka_pf h cs a k (.ref x)).bind fun h' => K L S h'
  | _ => none
def ki_putl (cs : List Nat) (k : Nat) (K : ka_K β) : ka_K β := fun L S h => match S with
  | .long x :: .ref a :: S => (ka_pf h cs a k (.long x)).bind fun h' => K L S h'
  | _ => none
def ki_putz (cs : List Nat) (k : Nat) (K : ka_K β) : ka_K β := fun L S h => match S with
  | .int x :: .ref a :: S => if x = iI 0 ∨ x = iI 1 then (ka_pf h cs a k (.int x)).bind fun h' => K L S h' else none
  | _ => none
theorem ka_pf_mono {h h' : ka_H} {cs : List Nat} {a k : Nat} {v : Value} (e : ka_pf h cs a k v = some h') : h'.2 = h.2 := by
  obtain ⟨c, fs, -, -, -, rfl⟩ := ka_pf_spec e
  rfl
theorem ka_put_step {K : ka_K β} {L : ka_L} {S S0 : List Value} {h h' : ka_H} {b : β} {pc' : Nat} (e2 : h'.2 = h.2) (hk : ka_S own cc nL nm FR LO cv pc' K) (hb : K L S h' = some b)
    (hW : ∀ (D : ka_D) (p : Program) (l : Launch) (e : Env) (R : Room) (s : State) (m : MethodId) (args : Array Value) (below : List Frame) (meth : Method) (c : Code) (Q : State → Prop) (cells slots : Nat), ka_Cx D own cc nL nm FR LO p R s m args meth c → ∀ (H : Heap) (locs : List Loc) (ls : Array Slot), ka_P D h H → (∀ q ∈ locs, D.2.2.heap.size ≤ q.base) → (∀ (H' : Heap) (locs' : List Loc), ka_P D h' H' → (∀ q ∈ locs', D.2.2.heap.size ≤ q.base) → W p l e R s m args below meth c H' locs' cells slots Q (F0 m pc' ls S)) → W p l e R s m args below meth c H locs cells slots Q (F0 m pc ls S0)) :
    ∃ (pc' : Nat) (k' : ka_K β) (L' : ka_L) (S' : List Value) (h' : ka_H), ka_S own cc nL nm FR LO cv pc' k' ∧ k' L' S' h' = some b ∧ h.2.1 ≤ h'.2.1 ∧ h.2.2.1 ≤ h'.2.2.1 ∧ h'.2.2.2 = h.2.2.2 ∧
    ∀ (D : ka_D) (p : Program) (l : Launch) (e : Env) (R : Room) (s : State) (m : MethodId) (args : Array Value) (below : List Frame) (meth : Method) (c : Code) (Q : State → Prop) (cells slots : Nat), ka_Cx D own cc nL nm FR LO p R s m args meth c → cells + (h'.2.1 - h.2.1) ≤ R.cells → slots + (h'.2.2.1 - h.2.2.1) ≤ R.slots →
      ∀ (H : Heap) (locs : List Loc) (ls : Array Slot), ka_P D h H → (∀ q ∈ locs, D.2.2.heap.size ≤ q.base) → ka_lr ls nL L → (∀ (H' : Heap) (locs' : List Loc) (ls' : Array Slot), ka_P D h' H' → (∀ q ∈ locs', D.2.2.heap.size ≤ q.base) → ka_lr ls' nL L' → W p l e R s m args below meth c H' locs' (cells + (h'.2.1 - h.2.1)) (slots + (h'.2.2.1 - h.2.2.1)) Q (F0 m pc' ls' S')) → W p l e R s m args below meth c H locs cells slots Q (F0 m pc ls S0) := by
  refine ⟨pc', K, L, S, h', hk, hb, by rw [e2]; exact Nat.le_refl _, by rw [e2]; exact Nat.le_refl _, by rw [e2], fun D p l e R s m args below meth c Q cells slots cx _ _ H locs ls hP hl hL kk => ?_⟩
  refine hW D p l e R s m args below meth c Q cells slots cx H locs ls hP hl (fun H' locs' hP' hl' => ?_)
  have := kk H' locs' ls hP' hl' hL
  rw [e2, Nat.sub_self, Nat.sub_self, Nat.add_zero, Nat.add_zero] at this
  exact this
theorem ks_puti {K : ka_K β} {index k : Nat} {cs : List Nat} (hd : decode cc pc = .ok (.putfield index, 3)) (hF : ∀ c ∈ cs, ka_G own nm index .int k c) (hk : ka_S own cc nL nm FR LO cv (pc + 3) K) : ka_S own cc nL nm FR LO cv pc (ki_puti cs k K) := by
  refine ks_heap fun L S h b hb => ?_
  unfold ki_puti at hb
  split at hb
  · obtain ⟨h', hx, hb⟩ := Option.bind_eq_some_iff.mp hb
    exact ka_put_step (ka_pf_mono hx) hk hb fun D p l e R s m args below meth c Q cells slots cx H locs ls hP hl kk => ka_Wput hd hF hx rfl rfl cx hP hl kk
  · cases hb
theorem ks_putl {K : ka_K β} {index k : Nat} {cs : List Nat} (hd : decode cc pc = .ok (.putfield index, 3)) (hF : ∀ c ∈ cs, ka_G own nm index .long k c) (hk : ka_S own cc nL nm FR LO cv (pc + 3) K) : ka_S own cc nL nm FR LO cv pc (ki_putl cs k K) := by
  refine ks_heap fun L S h b hb => ?_
  unfold ki_putl at hb
  split at hb
  · obtain ⟨h', hx, hb⟩ := Option.bind_eq_some_iff.mp hb
    exact ka_put_step (ka_pf_mono hx) hk hb fun D p l e R s m args below meth c Q cells slots cx H locs ls hP hl kk => ka_Wput hd hF hx rfl rfl cx hP hl kk
  · cases hb
theorem ks_putr {K : ka_K β} {index k : Nat} {cs : List Nat} {fty : FieldType} (hfr : fty.isReference = true) (hd : decode cc pc = .ok (.putfield index, 3)) (hF : ∀ c ∈ cs, ka_G own nm index fty k c) (hk : ka_S own cc nL nm FR LO cv (pc + 3) K) : ka_S own cc nL nm FR LO cv pc (ki_putr cs k K) := by
  refine ks_heap fun L S h b hb => ?_
  unfold ki_putr at hb
  split at hb
  · obtain ⟨h', hx, hb⟩ := Option.bind_eq_some_iff.mp hb
    exact ka_put_step (ka_pf_mono hx) hk hb fun D p l e R s m args below meth c Q cells slots cx H locs ls hP hl kk => ka_Wput hd hF hx (by cases fty <;> first | rfl | cases hfr) (by cases fty <;> first | rfl | cases hfr) cx hP hl kk
  · cases hb
theorem ks_putz {K : ka_K β} {index k : Nat} {cs : List Nat} (hd : decode cc pc = .ok (.putfield index, 3)) (hF : ∀ c ∈ cs, ka_G own nm index .boolean k c) (hk : ka_S own cc nL nm FR LO cv (pc + 3) K) : ka_S own cc nL nm FR LO cv pc (ki_putz cs k K) := by
  refine ks_heap fun L S h b hb => ?_
  unfold ki_putz at hb
  rw [iI_0, iI_1] at hb
  split at hb
  · split at hb
    · next x a S hc =>
      obtain ⟨h', hx, hb⟩ := Option.bind_eq_some_iff.mp hb
      exact ka_put_step (ka_pf_mono hx) hk hb fun D p l e R s m args below meth c Q cells slots cx H locs ls hP hl kk => ka_Wput hd hF hx (by rcases hc with rfl | rfl <;> rfl) (by rcases hc with rfl | rfl <;> rfl) cx hP hl kk
    · cases hb
  · cases hb
end KP
