/-! ===== instructions that read or change the heap ===== -/
theorem ka_at_kept {D : ka_D} {a : Nat} {x : ka_C} {H H1 : Heap} (e : H1[a]? = H[a]?) (h : ka_at D a x H) : ka_at D a x H1 := by
  obtain ⟨k, n, c⟩ | o := x
  · simp only [ka_at] at h ⊢
    split at h
    · next hk => rw [if_pos hk]; exact ⟨h.1, h.2.1, va_at.kept h.2.2 e⟩
    · next hk =>
      rw [if_neg hk]
      refine ⟨h.1, ?_⟩
      cases c with
      | inl f =>
        obtain ⟨scr, q1, q2⟩ := h.2
        exact ⟨scr, by rw [e]; exact q1, q2⟩
      | inr g =>
        obtain ⟨q0, cell, q1, q2⟩ := h.2
        exact ⟨q0, cell, by rw [e]; exact q1, q2⟩
  · exact ⟨h.1, va_at.kept h.2 e⟩
theorem ka_at_lt {D : ka_D} {a : Nat} {x : ka_C} {H : Heap} (h : ka_at D a x H) : a < H.size := by
  obtain ⟨k, n, c⟩ | o := x
  · simp only [ka_at] at h
    split at h
    · exact va_at.lt h.2.2
    · cases c with
      | inl f =>
        obtain ⟨scr, q1, q2⟩ := h.2
        exact (Array.getElem?_eq_some_iff.mp q1).1
      | inr g =>
        obtain ⟨q0, cell, q1, q2⟩ := h.2
        exact (Array.getElem?_eq_some_iff.mp q1).1
  · exact va_at.lt h.2
theorem ka_P.put {D : ka_D} {h : ka_H} {H H1 : Heap} {a : Nat} {x : ka_C} (hP : ka_P D h H) (hb : D.2.2.heap.size ≤ a) (z : H1.size = H.size) (oq : ∀ q : Nat, q ≠ a → H1[q]? = H[q]?) (hx : ka_at D a x H1) : ka_P D (ka_up h.1 a x, h.2) H1 := by
  obtain ⟨h1, h2, h3, h4, h5⟩ := hP
  refine ⟨z.trans h1, by rw [z]; exact h2, fun q hq => (oq q (by omega)).trans (h3 q hq), h4, fun b y hy => ?_⟩
  by_cases e : b = a
  · subst e
    rw [show (ka_up h.1 b x, h.2).1 = ka_up h.1 b x from rfl, ka_up_s] at hy
    cases hy
    exact hx
  · rw [show (ka_up h.1 a x, h.2).1 = ka_up h.1 a x from rfl, ka_up_n e] at hy
    exact ka_at_kept (oq b e) (h5 b y hy)
/-- a new cell -/
def ka_mk (h : ka_H) (x : ka_C) (n : Nat) : ka_H := (ka_up h.1 h.2.1 x, h.2.1 + 1, h.2.2.1 + n, h.2.2.2)
theorem ka_P.push {D : ka_D} {h : ka_H} {H H1 : Heap} {x : ka_C} {n : Nat} (hP : ka_P D h H) (z : H1.size = H.size + 1) (oq : ∀ q : Nat, q < H.size → H1[q]? = H[q]?) (hx : ka_at D H.size x H1) : ka_P D (ka_mk h x n) H1 := by
  obtain ⟨h1, h2, h3, h4, h5⟩ := hP
  refine ⟨by rw [z, h1]; rfl, by omega, fun q hq => (oq q (by omega)).trans (h3 q hq), h4, fun b y hy => ?_⟩
  by_cases e : b = H.size
  · subst e
    rw [h1] at hy
    rw [show (ka_mk h x n).1 = ka_up h.1 h.2.1 x from rfl, ka_up_s] at hy
    cases hy
    exact hx
  · rw [show (ka_mk h x n).1 = ka_up h.1 h.2.1 x from rfl, ka_up_n (by rw [← h1]; exact e)] at hy
    exact ka_at_kept (oq b (ka_at_lt (h5 b y hy))) (h5 b y hy)
/-- a class's fields are apart -/
def ka_sep (T : u_T) (N : Nat) : Prop := ∀ a, a < N → ∀ b, b < N → a ≠ b → (T a).2.1 ≠ (T b).2.1 ∨ ((T a).2.2.2 = true ∧ (T b).2.2.2 = true ∧ (T a).1 ≠ (T b).1)
theorem ka_clname {vm : Vm} {name : String} {c : ClassId} {k : Class} (h : vm.findClass name = some c) (hk : vm.classes[c]? = some k) : k.name = name := by
  obtain ⟨hlt, hp, _⟩ := Array.findIdx?_eq_some_iff_getElem.mp h
  have : vm.classes[c] = k := by simpa [hlt] using hk
  rw [this] at hp
  simp only [Bool.and_eq_true, beq_iff_eq] at hp
  exact hp.1.1.1
theorem ka_apart {D : ka_D} {s : State} {args : Array Value} {C : String} {T : u_T} {N ci : Nat} (hts : ∀ w ∈ lw_all, w.before args s = true) (hin : ∀ w ∈ u_ws C T N, w ∈ lw_all) (ty : Nat → FieldType) (hty : ∀ k, k < N → parseFieldDescriptor (T k).2.2.1 = some (ty k)) (hsep : ka_sep T N) (hK : ka_U D s) (hc : ka_cl[ci]? = some (C, T, N)) : ∀ x y, x < N → y < N → x ≠ y → (D.1.2 ci) x ≠ (D.1.2 ci) y := by
  intro x y hx hy hne
  obtain ⟨hS, -⟩ := hK.1.1 ci _ hc
  obtain ⟨ca, ka, ia, fa, hia, ea⟩ := hS x hx
  obtain ⟨cb, kb, ib, fb, hib, eb⟩ := hS y hy
  rw [← ea, ← eb]
  rcases hsep x hx y hy hne with h | ⟨h1, h2, h3⟩
  · refine u_apart (u_lays hts hin hx) (u_lays hts hin hy) hia hib ?_
    rw [(State.fieldFound?_type hia (hty x hx)).1, (State.fieldFound?_type hib (hty y hy)).1]
    exact h
  · have l1 := hts _ (hin _ (u_in_lay hx))
    have l2 := hts _ (hin _ (u_in_lay hy))
    unfold u_lay at l1 l2
    rw [if_pos h1] at l1
    rw [if_pos h2] at l2
    obtain ⟨c1, k1, c1', k1', i1, f1, a1, b1, e1, -, -, -, o1, -, d1, g1, m1, -⟩ := Cond.laysFinal_spec l1
    obtain ⟨c2, k2, c2', k2', i2, f2, a2, b2, e2, -, -, -, o2, -, d2, g2, m2, -⟩ := Cond.laysFinal_spec l2
    cases hia.symm.trans e1
    cases hib.symm.trans e2
    cases a1.symm.trans a2
    intro hs
    rw [hs] at g1
    cases g1.symm.trans g2
    have n1 := ka_clname o1 (State.fieldFound?_spec e1).1
    have n2 := ka_clname o2 (State.fieldFound?_spec e2).1
    exact h3 (by rw [← n1, ← n2, ← m1, ← m2])
section KH
variable {own : String} {cc : ByteArray} {nL : Nat} {nm : String} {FR LO : Nat} {β : Type} {cv : β → Option Value × ka_H} {pc : Nat}
/-- an instruction, the heap may change -/
theorem ks_heap {k : ka_K β} (hk : ∀ (L : ka_L) (S : List Value) (h : ka_H) (b : β), k L S h = some b → ∃ (pc' : Nat) (k' : ka_K β) (L' : ka_L) (S' : List Value) (h' : ka_H), ka_S own cc nL nm FR LO cv pc' k' ∧ k' L' S' h' = some b ∧ h.2.1 ≤ h'.2.1 ∧ h.2.2.1 ≤ h'.2.2.1 ∧ h'.2.2.2 = h.2.2.2 ∧
    ∀ (D : ka_D) (p : Program) (l : Launch) (e : Env) (R : Room) (s : State) (m : MethodId) (args : Array Value) (below : List Frame) (meth : Method) (c : Code) (Q : State → Prop) (cells slots : Nat), ka_Cx D own cc nL nm FR LO p R s m args meth c → cells + (h'.2.1 - h.2.1) ≤ R.cells → slots + (h'.2.2.1 - h.2.2.1) ≤ R.slots →
      ∀ (H : Heap) (locs : List Loc) (ls : Array Slot), ka_P D h H → (∀ q ∈ locs, D.2.2.heap.size ≤ q.base) → ka_lr ls nL L → (∀ (H' : Heap) (locs' : List Loc) (ls' : Array Slot), ka_P D h' H' → (∀ q ∈ locs', D.2.2.heap.size ≤ q.base) → ka_lr ls' nL L' → W p l e R s m args below meth c H' locs' (cells + (h'.2.1 - h.2.1)) (slots + (h'.2.2.1 - h.2.2.1)) Q (F0 m pc' ls' S')) → W p l e R s m args below meth c H locs cells slots Q (F0 m pc ls S)) : ka_S own cc nL nm FR LO cv pc k := by
  intro L S h b hb
  obtain ⟨pc', k', L', S', h', h1, h2, m1, m2, m3, h3⟩ := hk L S h b hb
  obtain ⟨⟨g0, g1, g3⟩, g2⟩ := h1 L' S' h' b h2
  refine ⟨⟨Nat.le_trans m1 g0, Nat.le_trans m2 g1, g3.trans m3⟩, fun D p l e R s m args below meth c nb sb Q cx n1 n2 n3 n4 fin H locs ls hP hl hL => ?_⟩
  have e1 : h.2.1 - nb + (h'.2.1 - h.2.1) = h'.2.1 - nb := by omega
  have e2 : h.2.2.1 - sb + (h'.2.2.1 - h.2.2.1) = h'.2.2.1 - sb := by omega
  refine h3 D p l e R s m args below meth c Q _ _ cx (by rw [e1]; omega) (by rw [e2]; omega) H locs ls hP hl hL (fun H' locs' ls' hP' hl' hL' => ?_)
  rw [e1, e2]
  exact g2 D p l e R s m args below meth c nb sb Q cx (by omega) (by omega) n3 n4 fin H' locs' ls' hP' hl' hL'
/-! fields -/
/-- how a method's link at an index reads field k of objects of class c -/
def ka_F (own : String) (index : Nat) (k c : Nat) : Prop := ∃ (C : String) (T : u_T) (N : Nat) (ref : String), ka_cl[c]? = some (C, T, N) ∧ k < N ∧ (∀ w ∈ u_ws C T N, w ∈ lw_all) ∧
  (Cond.fieldLink own index ref (T k).2.1 (T k).2.2.1 ∈ lw_all ∨ ∃ host : String, Cond.fieldLinkNest own index ref (T k).2.1 (T k).2.2.1 host ∈ ka_nw) ∧
  (ref = (T k).1 ∨ Cond.sameField ref (T k).1 (T k).2.1 (T k).2.2.1 ∈ lw_all)
theorem ka_F1 {own : String} {index k c : Nat} (C : String) (T : u_T) (N : Nat) (hc : ka_cl[c]? = some (C, T, N)) (hk : k < N) (hin : ∀ w ∈ u_ws C T N, w ∈ lw_all) (hl : Cond.fieldLink own index (T k).1 (T k).2.1 (T k).2.2.1 ∈ lw_all) : ka_F own index k c := ⟨C, T, N, _, hc, hk, hin, Or.inl hl, Or.inl rfl⟩
theorem ka_nw_mem {w : Cond} (h : w ∈ lw_tbl) (h2 : ka_nwp w = true) : w ∈ ka_nw := List.mem_filter.mpr ⟨h, h2⟩
theorem ka_FN {own host : String} {index k c : Nat} (C : String) (T : u_T) (N : Nat) (hc : ka_cl[c]? = some (C, T, N)) (hk : k < N) (hin : ∀ w ∈ u_ws C T N, w ∈ lw_all) (hl : Cond.fieldLinkNest own index (T k).1 (T k).2.1 (T k).2.2.1 host ∈ lw_tbl) : ka_F own index k c := ⟨C, T, N, _, hc, hk, hin, Or.inr ⟨host, ka_nw_mem hl rfl⟩, Or.inl rfl⟩
theorem ka_FS {own ref : String} {index k c : Nat} (C : String) (T : u_T) (N : Nat) (hc : ka_cl[c]? = some (C, T, N)) (hk : k < N) (hin : ∀ w ∈ u_ws C T N, w ∈ lw_all) (hl : Cond.fieldLink own index ref (T k).2.1 (T k).2.2.1 ∈ lw_all) (hs : Cond.sameField ref (T k).1 (T k).2.1 (T k).2.2.1 ∈ lw_all) : ka_F own index k c := ⟨C, T, N, _, hc, hk, hin, Or.inl hl, Or.inr hs⟩
def ka_gf (h : ka_H) (cs : List Nat) (a k : Nat) : Option Value := match h.1 a with
  | some (.inr (c, fs)) => if cs.contains c = true then fs[k]? else none
  | _ => none
theorem ka_gf_spec {h : ka_H} {cs : List Nat} {a k : Nat} {v : Value} (e : ka_gf h cs a k = some v) : ∃ (c : Nat) (fs : List Value), h.1 a = some (.inr (c, fs)) ∧ c ∈ cs ∧ fs[k]? = some v := by
  unfold ka_gf at e
  split at e
  · next c fs hx =>
    split at e
    · next hc => exact ⟨c, fs, hx, by simpa using hc, e⟩
    · cases e
  · cases e
theorem ka_sameF {s : State} {args : Array Value} {ref O n d : String} (hts : ∀ w ∈ lw_all, w.before args s = true) (h : ref = O ∨ Cond.sameField ref O n d ∈ lw_all) : ∀ x, s.fieldFound? O n d = some x → s.fieldFound? ref n d = some x := by
  rcases h with h | h
  · subst h; exact fun _ h => h
  · exact fun x hx => u_same (hts _ h) x hx
theorem ka_Wget {D : ka_D} {p : Program} {l : Launch} {e : Env} {R : Room} {s : State} {m : MethodId} {args : Array Value} {below : List Frame} {meth : Method} {c : Code} {Q : State → Prop} {cells slots : Nat} {H : Heap} {locs : List Loc} {ls : Array Slot} {index : Nat} {cs : List Nat} {k a : Nat} {h : ka_H} {v : Value} {S : List Value}
    (hd : decode cc pc = .ok (.getfield index, 3)) (hF : ∀ c ∈ cs, ka_F own index k c) (hg : ka_gf h cs a k = some v) (cx : ka_Cx D own cc nL nm FR LO p R s m args meth c) (hP : ka_P D h H)
    (kk : W p l e R s m args below meth c H locs cells slots Q (F0 m (pc + 3) ls (v :: S))) : W p l e R s m args below meth c H locs cells slots Q (F0 m pc ls (.ref a :: S)) := by
  obtain ⟨ci, fs, g1, g2, g3⟩ := ka_gf_spec hg
  obtain ⟨C, T, N, ref, f1, f2, f3, f4, f5⟩ := hF ci g2
  obtain ⟨x1, x2, x3, x4, x5, x6, -⟩ := cx
  have hA := (hP.2.2.2.2 a _ g1).2
  have hP1 : va_P D.1 ka_cl [(a, .inr (ci, fs))] H := fun i q hq => by
    match i, hq with
    | 0, hq => cases hq; exact hA
    | i + 1, hq => simp at hq
  rcases f4 with f4 | ⟨host, f4⟩
  · exact va_get x1 x2 x5 f3 x4 x6.1 hP1 0 rfl f1 k f2 (x5 _ f4) (ka_sameF x5 f5) g3 hd kk
  · exact va_getN x1 x2 x5 f3 x4 x6.1 hP1 0 rfl f1 k f2 (va_Nw.use rfl (x6.2.2 _ f4)) (ka_sameF x5 f5) g3 hd kk
def ka_gi (h : ka_H) (cs : List Nat) (a k : Nat) : Option Int32 := match ka_gf h cs a k with
  | some (.int x) => some x
  | _ => none
def ka_gr (h : ka_H) (cs : List Nat) (a k : Nat) : Option Nat := match ka_gf h cs a k with
  | some (.ref x) => some x
  | _ => none
def ka_gl (h : ka_H) (cs : List Nat) (a k : Nat) : Option Int64 := match ka_gf h cs a k with
  | some (.long x) => some x
  | _ => none
def ki_geti (cs : List Nat) (k : Nat) (K : ka_K β) : ka_K β := fun L S h => match S with
  | .ref a :: S => (ka_gi h cs a k).bind fun x => K L (.int x :: S) h
  | _ => none
def ki_getr (cs : List Nat) (k : Nat) (K : ka_K β) : ka_K β := fun L S h => match S with
  | .ref a :: S => (ka_gr h cs a k).bind fun x => K L (.ref x :: S) h
  | _ => none
def ki_getl (cs : List Nat) (k : Nat) (K : ka_K β) : ka_K β := fun L S h => match S with
  | .ref a :: S => (ka_gl h cs a k).bind fun x => K L (.long x :: S) h
  | _ => none
/-- a field that may be null -/
def ki_getv (cs : List Nat) (k : Nat) (K : ka_K β) : ka_K β := fun L S h => match S with
  | .ref a :: S => (ka_gf h cs a k).bind fun v => K L (v :: S) h
  | _ => none
theorem ka_gi_spec {h : ka_H} {cs : List Nat} {a k : Nat} {x : Int32} (e : ka_gi h cs a k = some x) : ka_gf h cs a k = some (.int x) := by
  unfold ka_gi at e
  split at e
  · next y hy => cases e; exact hy
  · cases e
theorem ka_gr_spec {h : ka_H} {cs : List Nat} {a k x : Nat} (e : ka_gr h cs a k = some x) : ka_gf h cs a k = some (.ref x) := by
  unfold ka_gr at e
  split at e
  · next y hy => cases e; exact hy
  · cases e
theorem ka_gl_spec {h : ka_H} {cs : List Nat} {a k : Nat} {x : Int64} (e : ka_gl h cs a k = some x) : ka_gf h cs a k = some (.long x) := by
  unfold ka_gl at e
  split at e
  · next y hy => cases e; exact hy
  · cases e
theorem ks_geti {K : ka_K β} {index k : Nat} {cs : List Nat} (hd : decode cc pc = .ok (.getfield index, 3)) (hF : ∀ c ∈ cs, ka_F own index k c) (hk : ka_S own cc nL nm FR LO cv (pc + 3) K) : ka_S own cc nL nm FR LO cv pc (ki_geti cs k K) := by
  refine ks_step fun L S h b hb => ?_
  unfold ki_geti at hb
  split at hb
  · obtain ⟨x, hx, hb⟩ := Option.bind_eq_some_iff.mp hb
    exact ⟨_, K, L, _, hk, hb, fun D p l e R s m args below meth c Q cells slots cx H locs ls hP hL kk => ka_Wget hd hF (ka_gi_spec hx) cx hP (kk ls hL)⟩
  · cases hb
theorem ks_getr {K : ka_K β} {index k : Nat} {cs : List Nat} (hd : decode cc pc = .ok (.getfield index, 3)) (hF : ∀ c ∈ cs, ka_F own index k c) (hk : ka_S own cc nL nm FR LO cv (pc + 3) K) : ka_S own cc nL nm FR LO cv pc (ki_getr cs k K) := by
  refine ks_step fun L S h b hb => ?_
  unfold ki_getr at hb
  split at hb
  · obtain ⟨x, hx, hb⟩ := Option.bind_eq_some_iff.mp hb
    exact ⟨_, K, L, _, hk, hb, fun D p l e R s m args below meth c Q cells slots cx H locs ls hP hL kk => ka_Wget hd hF (ka_gr_spec hx) cx hP (kk ls hL)⟩
  · cases hb
theorem ks_getl {K : ka_K β} {index k : Nat} {cs : List Nat} (hd : decode cc pc = .ok (.getfield index, 3)) (hF : ∀ c ∈ cs, ka_F own index k c) (hk : ka_S own cc nL nm FR LO cv (pc + 3) K) : ka_S own cc nL nm FR LO cv pc (ki_getl cs k K) := by
  refine ks_step fun L S h b hb => ?_
  unfold ki_getl at hb
  split at hb
  · obtain ⟨x, hx, hb⟩ := Option.bind_eq_some_iff.mp hb
    exact ⟨_, K, L, _, hk, hb, fun D p l e R s m args below meth c Q cells slots cx H locs ls hP hL kk => ka_Wget hd hF (ka_gl_spec hx) cx hP (kk ls hL)⟩
  · cases hb
theorem ks_getv {K : ka_K β} {index k : Nat} {cs : List Nat} (hd : decode cc pc = .ok (.getfield index, 3)) (hF : ∀ c ∈ cs, ka_F own index k c) (hk : ka_S own cc nL nm FR LO cv (pc + 3) K) : ka_S own cc nL nm FR LO cv pc (ki_getv cs k K) := by
  refine ks_step fun L S h b hb => ?_
  unfold ki_getv at hb
  split at hb
  · obtain ⟨x, hx, hb⟩ := Option.bind_eq_some_iff.mp hb
    exact ⟨_, K, L, _, hk, hb, fun D p l e R s m args below meth c Q cells slots cx H locs ls hP hL kk => ka_Wget hd hF hx cx hP (kk ls hL)⟩
  · cases hb
end KH
