/-! ===== contracts and calls ===== -/
/-- a method's contract: where its function answers, the method returns that answer and leaves that heap -/
def ka_M (y : MethodName) (bytes : ByteArray) (maxL : Nat) (ret : Option FieldType) (FR LO : Nat) {β : Type} (cv : β → Option Value × ka_H) (f : List Value → ka_H → Option β) : Prop :=
  ∀ (As : List Value) (h : ka_H) (b : β), f As h = some b → (h.2.1 ≤ (cv b).2.2.1 ∧ h.2.2.1 ≤ (cv b).2.2.2.1 ∧ (cv b).2.2.2.2 = h.2.2.2) ∧
    ∀ (l : Launch) (D : ka_D), Met l y (ws_ y bytes maxL ret) ({ frames := FR, cells := (cv b).2.2.1 - h.2.1, slots := (cv b).2.2.2.1 - h.2.2.1, locals := LO }) (va_Pc As (fun U => ka_P D h U.heap ∧ ka_U D U)) (fun _ _ o t => o = .returned (cv b).1 ∧ ka_P D (cv b).2 t.heap) ((cv b).2.2.1 - h.2.1) ((cv b).2.2.2.1 - h.2.2.1) (fun q => D.2.2.heap.size ≤ q)
/-- the locals with which a method begins -/
def ka_ent : List Value → ka_L
  | [] => []
  | .long x :: t => some (.long x) :: none :: ka_ent t
  | .double x :: t => some (.double x) :: none :: ka_ent t
  | v :: t => some v :: ka_ent t
theorem ka_ent_mem (As : List Value) : ∀ (i0 i : Nat) (v : Value), ka_nth (ka_ent As) i = some v → (i0 + i, v) ∈ lv_args i0 As := by
  induction As with
  | nil => intro i0 i v h; simp [ka_ent, ka_nth_nil] at h
  | cons a t ih =>
    intro i0 i v h
    have one : ∀ (w : Value), w.category = 1 → ka_nth (some w :: ka_ent t) i = some v → (i0 + i, v) ∈ lv_args i0 (w :: t) := by
      intro w hw h
      cases i with
      | zero => cases h; exact List.mem_cons_self
      | succ i =>
        have := ih (i0 + 1) i v h
        rw [lv_args, if_neg (by rw [hw]; decide)]
        refine List.mem_cons_of_mem _ ?_
        rw [show i0 + (i + 1) = i0 + 1 + i by omega]
        exact this
    have two : ∀ (w : Value), w.category = 2 → ka_nth (some w :: none :: ka_ent t) i = some v → (i0 + i, v) ∈ lv_args i0 (w :: t) := by
      intro w hw h
      match i, h with
      | 0, h => cases h; exact List.mem_cons_self
      | 1, h => cases h
      | i + 2, h =>
        have := ih (i0 + 2) i v h
        rw [lv_args, if_pos hw]
        refine List.mem_cons_of_mem _ ?_
        rw [show i0 + (i + 2) = i0 + 2 + i by omega]
        exact this
    cases a with
    | long x => exact two _ rfl h
    | double x => exact two _ rfl h
    | int x => exact one _ rfl h
    | float x => exact one _ rfl h
    | null => exact one _ rfl h
    | ref x => exact one _ rfl h
    | retAddr x => exact one _ rfl h
theorem ka_ent_len (As : List Value) : (lg_sl As).length = (ka_ent As).length := by
  induction As with
  | nil => rfl
  | cons a t ih =>
    rw [show lg_sl (a :: t) = lg_sl [a] ++ lg_sl t by simp [lg_sl], List.length_append, ih]
    cases a <;> simp [lg_sl, ka_ent, Value.category] <;> omega
/-- an answer of a method's type -/
def ka_rv (rt : Option FieldType) (v : Option Value) : Prop := match rt, v with
  | none, none => True
  | some .int, some (.int _) => True
  | some .boolean, some (.int x) => x = 0 ∨ x = 1
  | some (.object _), some (.ref _) => True
  | some (.object _), some .null => True
  | some (.array _), some (.ref _) => True
  | some (.array _), some .null => True
  | _, _ => False
theorem ka_rvZ (b : Bool × ka_H) : ka_rv (some .boolean) (ka_cvZ b).1 := by
  obtain ⟨x, h⟩ := b
  cases x
  · exact Or.inl iI_0
  · exact Or.inr iI_1
theorem ka_fin {p : Program} {l : Launch} {e : Env} {R : Room} {s : State} {m : MethodId} {args : Array Value} {below : List Frame} {meth : Method} {c : Code} {H : Heap} {locs : List Loc} {cells slots : Nat} {cc : ByteArray} {Qc : Array Value → State → Outcome → State → Prop} {free : Addr → Prop} {rt : Option FieldType} {v : Option Value} {pc : Nat} {ls : Array Slot}
    (hx : p.tables.exec = Jvm.exec) (hb : c.code = cc) (hr : meth.sig.returnType = rt) (hlocks : meth.locks = false) (hv : ka_rv rt v) (hd : ka_rd cc pc v) (hq : ∀ t : State, t.heap = H → s.WarmedH t.vm → Qc args s (.returned v) t) (hf : ∀ q ∈ locs, free q.base) : W p l e R s m args below meth c H locs cells slots (MQ below Qc args s cells slots free) (F0 m pc ls v.toList) := by
  unfold ka_rv at hv
  split at hv
  · exact W.vret hx hb hr hq hf hd
  · exact W.iret hx hb hr hq hf hd
  · exact W.zret hx hb hr (by rcases hv with rfl | rfl <;> rfl) hq hf hd
  · exact W.aret hx hb hr (Or.inl ⟨_, rfl⟩) (Or.inr ⟨_, rfl⟩) hq hf hd
  · exact W.aret hx hb hr (Or.inl ⟨_, rfl⟩) (Or.inl rfl) hq hf hd
  · exact W.aret hx hb hr (Or.inr ⟨_, rfl⟩) (Or.inr ⟨_, rfl⟩) hq hf hd
  · exact W.aret hx hb hr (Or.inr ⟨_, rfl⟩) (Or.inl rfl) hq hf hd
  · exact hv.elim
/-- a method's contract out of its code -/
theorem ka_M.of {y : MethodName} {own nm : String} {cc : ByteArray} {nL : Nat} {ret : Option FieldType} {FR LO : Nat} {β : Type} {cv : β → Option Value × ka_H} {k : ka_K β} (hy : plainFor y = true) (ho : y.cls = own) (hnm : y.name = nm) (hrv : ∀ b, ka_rv ret (cv b).1) (hS : ka_S own cc nL nm FR LO cv 0 k) : ka_M y cc nL ret FR LO cv (fun As h => if decide ((ka_ent As).length ≤ nL) = true then k (ka_ent As) [] h else none) := by
  intro As h b hb
  dsimp only at hb
  have hsz : (lg_sl As).length ≤ nL := by
    split at hb
    · next hd => rw [ka_ent_len]; exact of_decide_eq_true hd
    · cases hb
  replace hb : k (ka_ent As) [] h = some b := by
    split at hb
    · exact hb
    · cases hb
  obtain ⟨g1, g2⟩ := hS (ka_ent As) [] h b hb
  refine ⟨g1, fun l D => ?_⟩
  refine va_MetF (cc := cc) (maxL := nL) (ret := ret) hy rfl ?_
  intro p e s m args below meth c s₁ B hml hv
  obtain ⟨rfl, hP, hU⟩ := hv
  have hts := atoms_spec (ws := ws_ y cc nL ret) B.pre
  have hts : ∀ w ∈ lw_all, w.before _ s = true := fun w h => hts w (List.mem_cons_of_mem _ h)
  have hown : s.vm.findClass own = some m.cls := by rw [← ho]; exact findClass_of_methodNamed B.named
  have hin : meth.name = nm := by rw [← hnm]; exact (name_of_methodNamed B.named B.method).1
  have hl := lv_entry As (n := nL) hsz
  rw [lg_entry_eq]
  generalize (lg_sl As ++ List.replicate (nL - (lg_sl As).length) Slot.unset).toArray = ls at hl ⊢
  have hL : ka_lr ls nL (ka_ent As) := ⟨hl.1, hl.2.1, fun i v hi => hl.2.2 (i, v) (by have := ka_ent_mem As 0 i v hi; rwa [Nat.zero_add] at this)⟩
  have := g2 D p l e (headSpec (ws_ y cc nL ret) ({ frames := FR, cells := (cv b).2.2.1 - h.2.1, slots := (cv b).2.2.2.1 - h.2.2.1, locals := LO })).room s m As.toArray below meth c h.2.1 h.2.2.1 (MQ below (fun _ _ o t => o = .returned (cv b).1 ∧ ka_P D (cv b).2 t.heap) As.toArray s ((cv b).2.2.1 - h.2.1) ((cv b).2.2.2.1 - h.2.2.1) (fun q => D.2.2.heap.size ≤ q))
    ⟨B.exec, B.bytes, hml, hown, hts, hU, B.notSynchronized, Nat.le_refl _, Nat.le_refl _, hin⟩ (Nat.le_refl _) (Nat.le_refl _) (Nat.le_refl _) (Nat.le_refl _)
    (fun H locs pc ls hP' hl' hd' => ka_fin B.exec B.bytes B.returns B.notSynchronized (hrv b) hd' (fun t ht _ => ⟨rfl, by rw [ht]; exact hP'⟩) hl') s.heap [] ls hP (fun q hq => by cases hq) hL
  rw [Nat.sub_self, Nat.sub_self] at this
  exact this
theorem ka_Wcall {D : ka_D} {p : Program} {l : Launch} {e : Env} {R : Room} {s : State} {m : MethodId} {args : Array Value} {below : List Frame} {meth : Method} {c : Code} {Q : State → Prop} {cells slots mc ms : Nat} {H : Heap} {locs : List Loc} {ls : Array Slot} {pc : Nat} {st0 rest : List Value} {v : Option Value} {h' : ka_H}
    (hr : va_Run p l e R s m args below meth c H locs cells slots mc ms (F0 m pc ls st0) rest (fun _ o t => o = .returned v ∧ ka_P D h' t.heap) (fun q => D.2.2.heap.size ≤ q)) (hl : ∀ q ∈ locs, D.2.2.heap.size ≤ q.base)
    (kk : ∀ (H1 : Heap) (locs1 : List Loc), ka_P D h' H1 → (∀ q ∈ locs1, D.2.2.heap.size ≤ q.base) → W p l e R s m args below meth c H1 locs1 (cells + mc) (slots + ms) Q (F0 m (pc + 3) ls (v.toList ++ rest))) : W p l e R s m args below meth c H locs cells slots Q (F0 m pc ls st0) := by
  intro T hT X
  obtain ⟨v', st₀, t, T', L, h0, X', hL, e1, e2, ⟨hv, hp⟩, st⟩ := hr T hT X
  cases hv
  obtain ⟨t2, a1, b1⟩ := kk T'.heap (locs ++ L) (by rw [e1]; exact hp) (fun q hq => by
      rcases List.mem_append.mp hq with h | h
      · exact hl q h
      · exact hL q h) T' rfl X'
  exact ⟨t2, st t2 a1, b1⟩
theorem ka_Wcall5 {D : ka_D} {p : Program} {l : Launch} {e : Env} {R : Room} {s : State} {m : MethodId} {args : Array Value} {below : List Frame} {meth : Method} {c : Code} {Q : State → Prop} {cells slots mc ms : Nat} {H : Heap} {locs : List Loc} {ls : Array Slot} {pc : Nat} {st0 rest : List Value} {v : Option Value} {h' : ka_H}
    (hr : va_Run5 p l e R s m args below meth c H locs cells slots mc ms (F0 m pc ls st0) rest (fun _ o t => o = .returned v ∧ ka_P D h' t.heap) (fun q => D.2.2.heap.size ≤ q)) (hl : ∀ q ∈ locs, D.2.2.heap.size ≤ q.base)
    (kk : ∀ (H1 : Heap) (locs1 : List Loc), ka_P D h' H1 → (∀ q ∈ locs1, D.2.2.heap.size ≤ q.base) → W p l e R s m args below meth c H1 locs1 (cells + mc) (slots + ms) Q (F0 m (pc + 5) ls (v.toList ++ rest))) : W p l e R s m args below meth c H locs cells slots Q (F0 m pc ls st0) := by
  intro T hT X
  obtain ⟨v', st₀, t, T', L, h0, X', hL, e1, e2, ⟨hv, hp⟩, st⟩ := hr T hT X
  cases hv
  obtain ⟨t2, a1, b1⟩ := kk T'.heap (locs ++ L) (by rw [e1]; exact hp) (fun q hq => by
      rcases List.mem_append.mp hq with h | h
      · exact hl q h
      · exact hL q h) T' rfl X'
  exact ⟨t2, st t2 a1, b1⟩
theorem ka_blind {D : ka_D} {As : List Value} {h : ka_H} : FrameBlind (va_Pc As (fun U => ka_P D h U.heap ∧ ka_U D U)) := fun a U g mk q => ⟨q.1, q.2.1, q.2.2.blind⟩
theorem ka_pre {D : ka_D} {s : State} {H : Heap} {As : List Value} {h : ka_H} (hP : ka_P D h H) (hU : ka_U D s) : ∀ U : State, U.heap = H → s.WarmedH U.vm → va_Pc As (fun U => ka_P D h U.heap ∧ ka_U D U) As.toArray U := fun U e hW => ⟨rfl, by rw [e]; exact hP, hU.warm hW⟩
section KC
variable {own : String} {cc : ByteArray} {nL : Nat} {nm : String} {FR LO : Nat} {β : Type} {cv : β → Option Value × ka_H} {pc : Nat}
variable {β' : Type} {cv' : β' → Option Value × ka_H} {f : List Value → ka_H → Option β'} {y : MethodName} {bytes : ByteArray} {maxL : Nat} {ret : Option FieldType} {FR' LO' : Nat} {index : Nat} {K : ka_K β}
/-- a call of n arguments -/
def ki_callS (n : Nat) (f : List Value → ka_H → Option β') (cv' : β' → Option Value × ka_H) (K : ka_K β) : ka_K β := fun L S h => if (decide (n ≤ S.length) && ka_w8 (S.drop n)) = true then (f (S.take n).reverse h).bind fun r => K L ((cv' r).1.toList ++ S.drop n) (cv' r).2 else none
/-- a call of n arguments at an object of one of these classes -/
def ki_callV (n : Nat) (cs : List Nat) (f : List Value → ka_H → Option β') (cv' : β' → Option Value × ka_H) (K : ka_K β) : ka_K β := fun L S h => match S.drop n with
  | .ref a :: S' => if ka_w8 S' = true then (if ka_isc h cs a = true then (f (.ref a :: (S.take n).reverse) h).bind fun r => K L ((cv' r).1.toList ++ S') (cv' r).2 else none) else none
  | _ => none
/-- a constructor's call -/
def ki_callI (n : Nat) (f : List Value → ka_H → Option β') (cv' : β' → Option Value × ka_H) (K : ka_K β) : ka_K β := fun L S h => match S.drop n with
  | .ref a :: S' => if ka_w8 S' = true then (f (.ref a :: (S.take n).reverse) h).bind fun r => K L ((cv' r).1.toList ++ S') (cv' r).2 else none
  | _ => none
theorem ka_call_step {L : ka_L} {S S0 : List Value} {h h' : ka_H} {b : β} {pc' : Nat} (m1 : h.2.1 ≤ h'.2.1) (m2 : h.2.2.1 ≤ h'.2.2.1) (m3 : h'.2.2.2 = h.2.2.2) (hk : ka_S own cc nL nm FR LO cv pc' K) (hb : K L S h' = some b)
    (hW : ∀ (D : ka_D) (p : Program) (l : Launch) (e : Env) (R : Room) (s : State) (m : MethodId) (args : Array Value) (below : List Frame) (meth : Method) (c : Code) (Q : State → Prop) (cells slots : Nat), ka_Cx D own cc nL nm FR LO p R s m args meth c → cells + (h'.2.1 - h.2.1) ≤ R.cells → slots + (h'.2.2.1 - h.2.2.1) ≤ R.slots → ∀ (H : Heap) (locs : List Loc) (ls : Array Slot), ka_P D h H → (∀ q ∈ locs, D.2.2.heap.size ≤ q.base) → ls.size = nL → (∀ (H' : Heap) (locs' : List Loc), ka_P D h' H' → (∀ q ∈ locs', D.2.2.heap.size ≤ q.base) → W p l e R s m args below meth c H' locs' (cells + (h'.2.1 - h.2.1)) (slots + (h'.2.2.1 - h.2.2.1)) Q (F0 m pc' ls S)) → W p l e R s m args below meth c H locs cells slots Q (F0 m pc ls S0)) :
    ∃ (pc' : Nat) (k' : ka_K β) (L' : ka_L) (S' : List Value) (h' : ka_H), ka_S own cc nL nm FR LO cv pc' k' ∧ k' L' S' h' = some b ∧ h.2.1 ≤ h'.2.1 ∧ h.2.2.1 ≤ h'.2.2.1 ∧ h'.2.2.2 = h.2.2.2 ∧
    ∀ (D : ka_D) (p : Program) (l : Launch) (e : Env) (R : Room) (s : State) (m : MethodId) (args : Array Value) (below : List Frame) (meth : Method) (c : Code) (Q : State → Prop) (cells slots : Nat), ka_Cx D own cc nL nm FR LO p R s m args meth c → cells + (h'.2.1 - h.2.1) ≤ R.cells → slots + (h'.2.2.1 - h.2.2.1) ≤ R.slots →
      ∀ (H : Heap) (locs : List Loc) (ls : Array Slot), ka_P D h H → (∀ q ∈ locs, D.2.2.heap.size ≤ q.base) → ka_lr ls nL L → (∀ (H' : Heap) (locs' : List Loc) (ls' : Array Slot), ka_P D h' H' → (∀ q ∈ locs', D.2.2.heap.size ≤ q.base) → ka_lr ls' nL L' → W p l e R s m args below meth c H' locs' (cells + (h'.2.1 - h.2.1)) (slots + (h'.2.2.1 - h.2.2.1)) Q (F0 m pc' ls' S')) → W p l e R s m args below meth c H locs cells slots Q (F0 m pc ls S0) :=
  ⟨pc', K, L, S, h', hk, hb, m1, m2, m3, fun D p l e R s m args below meth c Q cells slots cx r1 r2 H locs ls hP hl hL kk => hW D p l e R s m args below meth c Q cells slots cx r1 r2 H locs ls hP hl hL.1 (fun H' locs' hP' hl' => kk H' locs' ls hP' hl' hL)⟩
/-- the names of a callee, and that it fits the caller's room -/
def ka_ok (y : MethodName) (n maxL FR' LO' FR LO : Nat) : Prop := (y.cls ≠ "java/lang/invoke/MethodHandle" ∧ y.cls ≠ "java/lang/invoke/VarHandle" ∧ (parseMethodDescriptor y.desc).map (fun d => d.parameters.length) = some n) ∧ FR' + 1 ≤ FR ∧ 8 + (maxL + 11) + LO' ≤ LO
theorem ks_callS {n : Nat} (hM : ka_M y bytes maxL ret FR' LO' cv' f) (hd : decode cc pc = .ok (.invokestatic index, 3)) (h1 : Cond.methodLink own index y ∈ lw_all ∨ ∃ host : String, Cond.methodLinkNest own index y host ∈ lw_tbl) (h2 : Cond.static y ∈ lw_all) (h3 : Cond.initialized y.cls ∈ lw_all) (h4 : Cond.code y bytes maxL ret ∈ lw_all) (ho : ka_ok y n maxL FR' LO' FR LO) (hk : ka_S own cc nL nm FR LO cv (pc + 3) K) : ka_S own cc nL nm FR LO cv pc (ki_callS n f cv' K) := by
  refine ks_heap fun L S h b hb => ?_
  unfold ki_callS at hb
  split at hb
  · next hc =>
    obtain ⟨hc1, hc2⟩ := Bool.and_eq_true_iff.mp hc
    have hc1 := of_decide_eq_true hc1
    obtain ⟨r, hx, hb⟩ := Option.bind_eq_some_iff.mp hb
    obtain ⟨⟨m1, m2, m3⟩, hMet⟩ := hM _ _ _ hx
    refine ka_call_step m1 m2 m3 hk hb fun D p l e R s m args below meth c Q cells slots cx r1 r2 H locs ls hP hl hsz kk => ?_
    obtain ⟨x1, x2, x3, x4, x5, x6, -, x8, x9, -⟩ := cx
    have hlen : (S.take n).reverse.length = n := by simp [hc1]
    have hst : S = (S.take n).reverse.reverse ++ S.drop n := by simp
    rcases h1 with h1 | ⟨host, h1⟩
    · exact ka_Wcall (va_runS (As := (S.take n).reverse) (rest := S.drop n) ⟨x1, x2, x3, x4, x5⟩ (hMet l D) (va_cwS n x5 (lw_S h1 h2 h3 h4) rfl rfl rfl ho.1 ⟨Nat.le_trans ho.2.1 x8, Nat.le_trans ho.2.2 x9⟩) ⟨ka_blind, ka_pre hP x6⟩ rfl hlen hsz hst (lv_room (ka_w8_spec hc2)) hd ⟨r1, r2⟩) hl kk
    · exact ka_Wcall (va_runSN (As := (S.take n).reverse) (rest := S.drop n) ⟨x1, x2, x3, x4, x5⟩ (hMet l D) ⟨va_cnB n x5 (lw_meth h4) rfl rfl rfl (x6.2.2 _ (ka_nw_mem h1 rfl)) (x5 _ h3) ho.1 ⟨Nat.le_trans ho.2.1 x8, Nat.le_trans ho.2.2 x9⟩, x5 _ h2, trivial⟩ ⟨ka_blind, ka_pre hP x6⟩ rfl hlen hsz hst (lv_room (ka_w8_spec hc2)) hd ⟨r1, r2⟩) hl kk
  · cases hb
theorem ks_callV {n : Nat} {cs : List Nat} (hM : ka_M y bytes maxL ret FR' LO' cv' f) (hd : decode cc pc = .ok (.invokevirtual index, 3)) (h1 : Cond.methodLink own index y ∈ lw_all ∨ ∃ host : String, Cond.methodLinkNest own index y host ∈ lw_tbl) (h2 : Cond.instanceMethod y ∈ lw_all) (hse : ∀ c ∈ cs, ∃ q : vw_C, ka_cl[c]? = some q ∧ Cond.selects q.1 y y ∈ lw_all) (h3 : Cond.initialized y.cls ∈ lw_all) (h4 : Cond.code y bytes maxL ret ∈ lw_all) (ho : ka_ok y n maxL FR' LO' FR LO) (hk : ka_S own cc nL nm FR LO cv (pc + 3) K) : ka_S own cc nL nm FR LO cv pc (ki_callV n cs f cv' K) := by
  refine ks_heap fun L S h b hb => ?_
  unfold ki_callV at hb
  split at hb
  · next a S' hS =>
    split at hb
    · next hc2 =>
      split at hb
      · next hc =>
        obtain ⟨r, hx, hb⟩ := Option.bind_eq_some_iff.mp hb
        obtain ⟨⟨m1, m2, m3⟩, hMet⟩ := hM _ _ _ hx
        obtain ⟨ci, fs, g1, g2⟩ := ka_isc_spec hc
        obtain ⟨q, q1, q2⟩ := hse ci g2
        refine ka_call_step m1 m2 m3 hk hb fun D p l e R s m args below meth c Q cells slots cx r1 r2 H locs ls hP hl hsz kk => ?_
        obtain ⟨x1, x2, x3, x4, x5, x6, -, x8, x9, -⟩ := cx
        have hln : n < S.length := by
          have := congrArg List.length hS
          simp at this
          omega
        have hlen : (S.take n).reverse.length = n := by simp; omega
        have hst : S = (S.take n).reverse.reverse ++ .ref a :: S' := by rw [List.reverse_reverse, ← hS, List.take_append_drop]
        have hp : PreV s H q.1 a (va_Pc (.ref a :: (S.take n).reverse) (fun U => ka_P D h U.heap ∧ ka_U D U)) (S.take n).reverse := ⟨ka_blind, ka_recv x6 hP g1 q1, ka_pre hP x6⟩
        rcases h1 with h1 | ⟨host, h1⟩
        · exact ka_Wcall (va_runV (C := q.1) (As := (S.take n).reverse) (rest := S') ⟨x1, x2, x3, x4, x5⟩ (hMet l D) ⟨callB_of n x5 (lw_meth h4) rfl rfl rfl (x5 _ h3) (x5 _ h1) ho.1 ⟨Nat.le_trans ho.2.1 x8, Nat.le_trans ho.2.2 x9⟩, x5 _ h2, x5 _ q2⟩ hp rfl hlen hsz hst (lv_room (ka_w8_spec hc2)) hd ⟨r1, r2⟩) hl kk
        · exact ka_Wcall (va_runVN (C := q.1) (As := (S.take n).reverse) (rest := S') ⟨x1, x2, x3, x4, x5⟩ (hMet l D) ⟨va_cnB n x5 (lw_meth h4) rfl rfl rfl (x6.2.2 _ (ka_nw_mem h1 rfl)) (x5 _ h3) ho.1 ⟨Nat.le_trans ho.2.1 x8, Nat.le_trans ho.2.2 x9⟩, x5 _ h2, x5 _ q2⟩ hp rfl hlen hsz hst (lv_room (ka_w8_spec hc2)) hd ⟨r1, r2⟩) hl kk
      · cases hb
    · cases hb
  · cases hb
/-- a call whose link names x, and that runs y at objects of these classes -/
theorem ks_callU {n : Nat} {cs : List Nat} {x : MethodName} {owner : String} (hM : ka_M y bytes maxL ret FR' LO' cv' f) (hd : decode cc pc = .ok (.invokevirtual index, 3)) (h1 : Cond.methodLink own index x ∈ lw_all) (h5 : Cond.sameMethod x.cls owner x.name x.desc ∈ lw_all) (h6 : Cond.declares ⟨owner, x.name, x.desc⟩ ∈ lw_tbl) (h2 : Cond.instanceMethod y ∈ lw_all) (hse : ∀ c ∈ cs, ∃ q : vw_C, ka_cl[c]? = some q ∧ Cond.selects q.1 x y ∈ lw_all) (h3 : Cond.initialized y.cls ∈ lw_all) (h4 : Cond.code y bytes maxL ret ∈ lw_all)
    (hno : owner ≠ "java/lang/invoke/MethodHandle" ∧ owner ≠ "java/lang/invoke/VarHandle" ∧ (parseMethodDescriptor x.desc).map (fun d => d.parameters.length) = some n) (ho : FR' + 1 ≤ FR ∧ 8 + (maxL + 11) + LO' ≤ LO) (hk : ka_S own cc nL nm FR LO cv (pc + 3) K) : ka_S own cc nL nm FR LO cv pc (ki_callV n cs f cv' K) := by
  refine ks_heap fun L S h b hb => ?_
  unfold ki_callV at hb
  split at hb
  · next a S' hS =>
    split at hb
    · next hc2 =>
      split at hb
      · next hc =>
        obtain ⟨r, hx, hb⟩ := Option.bind_eq_some_iff.mp hb
        obtain ⟨⟨m1, m2, m3⟩, hMet⟩ := hM _ _ _ hx
        obtain ⟨ci, fs, g1, g2⟩ := ka_isc_spec hc
        obtain ⟨q, q1, q2⟩ := hse ci g2
        refine ka_call_step m1 m2 m3 hk hb fun D p l e R s m args below meth c Q cells slots cx r1 r2 H locs ls hP hl hsz kk => ?_
        obtain ⟨x1, x2, x3, x4, x5, x6, -, x8, x9, -⟩ := cx
        have hln : n < S.length := by
          have := congrArg List.length hS
          simp at this
          omega
        have hlen : (S.take n).reverse.length = n := by simp; omega
        have hst : S = (S.take n).reverse.reverse ++ .ref a :: S' := by rw [List.reverse_reverse, ← hS, List.take_append_drop]
        have hp : PreV s H q.1 a (va_Pc (.ref a :: (S.take n).reverse) (fun U => ka_P D h U.heap ∧ ka_U D U)) (S.take n).reverse := ⟨ka_blind, ka_recv x6 hP g1 q1, ka_pre hP x6⟩
        have hG : GoodIn lw_all (va_wsU own index q.1 owner x y (ws_ y bytes maxL ret)) := by
          unfold va_wsU
          refine lw_app (fun w hw => ?_) (lw_meth h4)
          simp only [List.mem_cons, List.not_mem_nil, or_false] at hw
          rcases hw with rfl | rfl | rfl | rfl | rfl
          · exact h1
          · exact h5
          · exact q2
          · exact h2
          · exact h3
        exact ka_Wcall (va_runU (C := q.1) (As := (S.take n).reverse) (rest := S') ⟨x1, x2, x3, x4, x5⟩ (hMet l D) (va_cwA n x5 hG rfl rfl rfl (x6.2.2 _ (ka_nw_mem h6 rfl)) hno ⟨Nat.le_trans ho.1 x8, Nat.le_trans ho.2 x9⟩) hp rfl hlen hsz hst (lv_room (ka_w8_spec hc2)) hd ⟨r1, r2⟩) hl kk
      · cases hb
    · cases hb
  · cases hb
theorem ks_callI {n : Nat} (hM : ka_M y bytes maxL none FR' LO' cv' f) (hd : decode cc pc = .ok (.invokespecial index, 3)) (h1 : Cond.methodLink own index y ∈ lw_all ∨ ∃ host : String, Cond.methodLinkNest own index y host ∈ lw_tbl) (h2 : Cond.instanceMethod y ∈ lw_all) (h3 : Cond.initialized y.cls ∈ lw_all) (h4 : Cond.code y bytes maxL none ∈ lw_all) (hi : y.name = "<init>") (ho : ka_ok y n maxL FR' LO' FR LO) (hk : ka_S own cc nL nm FR LO cv (pc + 3) K) : ka_S own cc nL nm FR LO cv pc (ki_callI n f cv' K) := by
  refine ks_heap fun L S h b hb => ?_
  unfold ki_callI at hb
  split at hb
  · next a S' hS =>
    split at hb
    · next hc2 =>
      obtain ⟨r, hx, hb⟩ := Option.bind_eq_some_iff.mp hb
      obtain ⟨⟨m1, m2, m3⟩, hMet⟩ := hM _ _ _ hx
      refine ka_call_step m1 m2 m3 hk hb fun D p l e R s m args below meth c Q cells slots cx r1 r2 H locs ls hP hl hsz kk => ?_
      obtain ⟨x1, x2, x3, x4, x5, x6, -, x8, x9, -⟩ := cx
      have hln : n < S.length := by
        have := congrArg List.length hS
        simp at this
        omega
      have hlen : (S.take n).reverse.length = n := by simp; omega
      have hst : S = (S.take n).reverse.reverse ++ .ref a :: S' := by rw [List.reverse_reverse, ← hS, List.take_append_drop]
      rcases h1 with h1 | ⟨host, h1⟩
      · exact ka_Wcall (va_runI (As := (S.take n).reverse) (rest := S') ⟨x1, x2, x3, x4, x5⟩ (hMet l D) (cwI n x5 (lw_meth h4) rfl rfl rfl (x5 _ h3) (x5 _ h1) (x5 _ h2) hi ho.1 ⟨Nat.le_trans ho.2.1 x8, Nat.le_trans ho.2.2 x9⟩) ⟨ka_blind, ka_pre hP x6⟩ rfl hlen hsz hst (lv_room (ka_w8_spec hc2)) hd ⟨r1, r2⟩) hl kk
      · exact ka_Wcall (va_runIN (As := (S.take n).reverse) (rest := S') ⟨x1, x2, x3, x4, x5⟩ (hMet l D) ⟨va_cnB n x5 (lw_meth h4) rfl rfl rfl (x6.2.2 _ (ka_nw_mem h1 rfl)) (x5 _ h3) ho.1 ⟨Nat.le_trans ho.2.1 x8, Nat.le_trans ho.2.2 x9⟩, hi, x5 _ h2⟩ ⟨ka_blind, ka_pre hP x6⟩ rfl hlen hsz hst (lv_room (ka_w8_spec hc2)) hd ⟨r1, r2⟩) hl kk
    · cases hb
  · cases hb
end KC
