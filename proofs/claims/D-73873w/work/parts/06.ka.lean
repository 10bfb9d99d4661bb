/-! ===== THE SMALL MACHINE (ka_): abstract heaps, one combinator an instruction (ki_), one soundness row each (ks_) ===== -/
/-- the int of a number, the long of a number -/
def iI (x : Int) : Int32 := Int32.ofInt x
def lI (x : Int) : Int64 := Int64.ofInt x
theorem iI_0 : iI 0 = 0 := by decide
theorem iI_1 : iI 1 = 1 := by decide
/-- an array: its kind, its length, what it holds -/
abbrev ka_A : Type := Nat × Nat × ((Nat → Int32) ⊕ (Nat → Option Nat))
/-- a cell: an array, or an object (number of its class, fields) -/
abbrev ka_C : Type := ka_A ⊕ (Nat × List Value)
/-- a heap: cells, size, slots used, addresses of the statics -/
abbrev ka_H : Type := (Nat → Option ka_C) × Nat × Nat × (Nat → Nat)
abbrev ka_L : Type := List (Option Value)
abbrev ka_K (β : Type) : Type := ka_L → List Value → ka_H → Option β
/-- numbers of classes and slots, classes of arrays, the law's start -/
abbrev ka_D : Type := va_G × (Nat → ClassId) × State
abbrev ka_cl : List vw_C := [(RX1, TX1, 21), (RX3, TX3, 2), (RX4, TX4, 2), (RX13, TX13, 11), (RX14, TX14, 9), (RX10, TX10, 4), (RX6, TX6, 9), (RX5, TX5, 9), (RX7, TX7, 4), (RX8, TX8, 5), (RX11, TX11, 6), (RX9, TX9, 37), (RJ3, TJ3, 3)]
abbrev ka_ty : List FieldType := [.int, .byte, .boolean, .object "CellRows$Chip", .object "CellRows$Cell", .object "CellRows$Net", .object "CellRows$Rect", .object "CellRows$Bin", .array .int, .object "java/lang/Object"]
def ka_tys (D : ka_D) : List (ClassId × FieldType) := [(D.2.1 0, .int), (D.2.1 1, .byte), (D.2.1 2, .boolean), (D.2.1 3, .object "CellRows$Chip"), (D.2.1 4, .object "CellRows$Cell"), (D.2.1 5, .object "CellRows$Net"), (D.2.1 6, .object "CellRows$Rect"), (D.2.1 7, .object "CellRows$Bin"), (D.2.1 8, .array .int), (D.2.1 9, .object "java/lang/Object")]
theorem ka_tys_at {D : ka_D} {k : Nat} {ty : FieldType} (h : ka_ty[k]? = some ty) : (ka_tys D)[k]? = some (D.2.1 k, ty) := by
  match k, h with
  | 0, h => cases h; rfl
  | 1, h => cases h; rfl
  | 2, h => cases h; rfl
  | 3, h => cases h; rfl
  | 4, h => cases h; rfl
  | 5, h => cases h; rfl
  | 6, h => cases h; rfl
  | 7, h => cases h; rfl
  | 8, h => cases h; rfl
  | 9, h => cases h; rfl
  | k + 10, h => simp at h
/-! locals -/
def ka_nth : ka_L → Nat → Option Value
  | [], _ => none
  | x :: _, 0 => x
  | _ :: t, n + 1 => ka_nth t n
def ka_upd : ka_L → Nat → Value → ka_L
  | [], 0, v => [some v]
  | [], n + 1, v => none :: ka_upd [] n v
  | _ :: t, 0, v => some v :: t
  | x :: t, n + 1, v => x :: ka_upd t n v
def ka_c2 (L : ka_L) : Nat → Bool
  | 0 => false
  | j + 1 => match ka_nth L j with
    | some (.long _) => true
    | some (.double _) => true
    | _ => false
theorem ka_nth_nil (i : Nat) : ka_nth [] i = none := by cases i <;> rfl
theorem ka_nth_upd (L : ka_L) (i : Nat) (v : Value) (j : Nat) : ka_nth (ka_upd L i v) j = if j = i then some v else ka_nth L j := by
  induction i generalizing L j with
  | zero =>
    cases L with
    | nil => cases j with
      | zero => rfl
      | succ j => simp [ka_upd, ka_nth, ka_nth_nil]
    | cons x t => cases j with
      | zero => rfl
      | succ j => simp [ka_upd, ka_nth]
  | succ i ih =>
    cases L with
    | nil => cases j with
      | zero => simp [ka_upd, ka_nth]
      | succ j => simp [ka_upd, ka_nth, ih, ka_nth_nil]
    | cons x t => cases j with
      | zero => simp [ka_upd, ka_nth]
      | succ j => simp [ka_upd, ka_nth, ih]
theorem ka_nth_take (L : ka_L) (n j : Nat) (v : Value) (h : ka_nth (L.take n) j = some v) : ka_nth L j = some v := by
  induction L generalizing n j with
  | nil => simp [ka_nth] at h
  | cons x t ih =>
    cases n with
    | zero => simp [ka_nth] at h
    | succ n => cases j with
      | zero => exact h
      | succ j => exact ih n j h
theorem ka_nth_lt {L : ka_L} {i : Nat} {v : Value} (h : ka_nth L i = some v) : i < L.length := by
  induction L generalizing i with
  | nil => simp [ka_nth] at h
  | cons x t ih => cases i with
    | zero => simp
    | succ i => simp only [List.length_cons]; have := ih h; omega
def ka_lvs (L : ka_L) : List (Nat × Value) := (List.range L.length).filterMap fun i => (ka_nth L i).map fun v => (i, v)
theorem ka_lvs_mem {L : ka_L} {q : Nat × Value} : q ∈ ka_lvs L ↔ ka_nth L q.1 = some q.2 := by
  unfold ka_lvs
  constructor
  · intro h
    obtain ⟨i, -, hi⟩ := List.mem_filterMap.mp h
    cases hn : ka_nth L i with
    | none => rw [hn] at hi; cases hi
    | some v => rw [hn] at hi; cases hi; exact hn
  · intro h
    exact List.mem_filterMap.mpr ⟨q.1, List.mem_range.mpr (ka_nth_lt h), by rw [h]; rfl⟩
/-- the machine's locals hold what the list says -/
def ka_lr (ls : Array Slot) (nL : Nat) (L : ka_L) : Prop := ls.size = nL ∧ lv_wf ls ∧ ∀ (i : Nat) (v : Value), ka_nth L i = some v → ls[i]? = some (.val v)
theorem ka_lr.has {ls : Array Slot} {nL : Nat} {L : ka_L} (h : ka_lr ls nL L) : lv_has ls nL (ka_lvs L) := ⟨h.1, h.2.1, fun q hq => h.2.2 q.1 q.2 (ka_lvs_mem.mp hq)⟩
theorem ka_c2_no {L : ka_L} {i j : Nat} {v : Value} (h : ka_c2 L i = false) (hj : ka_nth L j = some v) (e : j + 1 = i) : v.category ≠ 2 := by
  subst e
  simp only [ka_c2, hj] at h
  cases v <;> simp_all [Value.category]
theorem ka_lr.upd {ls' : Array Slot} {nL i : Nat} {L : ka_L} {v : Value} {lv' : List (Nat × Value)} (hc : ka_c2 L i = false) (hl : (i, v) :: (ka_lvs L).filter (fun q => !(q.1 == i) && !(q.1 + 1 == i && q.2.category == 2)) = lv') (h : lv_has ls' nL lv') : ka_lr ls' nL (ka_upd L i v) := by
  refine ⟨h.1, h.2.1, fun j w hj => ?_⟩
  rw [ka_nth_upd] at hj
  refine h.2.2 (j, w) ?_
  rw [← hl]
  by_cases e : j = i
  · subst e
    rw [if_pos rfl] at hj
    cases hj
    exact List.mem_cons_self
  · rw [if_neg e] at hj
    refine List.mem_cons_of_mem _ (List.mem_filter.mpr ⟨ka_lvs_mem.mpr hj, ?_⟩)
    by_cases e2 : j + 1 = i
    · have := ka_c2_no hc hj e2
      simp [e, this]
    · simp [e, e2]
theorem ka_lr.take {ls : Array Slot} {nL n : Nat} {L : ka_L} (h : ka_lr ls nL L) : ka_lr ls nL (L.take n) := ⟨h.1, h.2.1, fun j w hj => h.2.2 j w (ka_nth_take L n j w hj)⟩
/-! heaps -/
def ka_up (f : Nat → Option ka_C) (a : Nat) (x : ka_C) : Nat → Option ka_C := fun q => if q = a then some x else f q
theorem ka_up_s (f : Nat → Option ka_C) (a : Nat) (x : ka_C) : ka_up f a x a = some x := by simp [ka_up]
theorem ka_up_n {f : Nat → Option ka_C} {a b : Nat} {x : ka_C} (h : b ≠ a) : ka_up f a x b = f b := by simp [ka_up, h]
def ka_e (D : ka_D) (x : ka_C) : va_E := match x with
  | .inl (k, n, .inl f) => .inl (D.2.1 k, n, .inl f)
  | .inl (k, n, .inr g) => .inl (D.2.1 k, n, .inr (.inr (.inr (.inr g))))
  | .inr o => .inr o
/-- a cell of the machine's heap is what the abstract heap says: own cells, or cells of the start that are read alone (kinds from 50 on) -/
def ka_at (D : ka_D) (a : Nat) (x : ka_C) (H : Heap) : Prop := match x with
  | .inl (k, n, c) => if k < 50 then k < 10 ∧ D.2.2.heap.size ≤ a ∧ va_at D.1 ka_cl (a, ka_e D (.inl (k, n, c))) H else a < D.2.2.heap.size ∧ (match c with
    | .inl f => va_X a n f D.2.2 H
    | .inr _ => n = 0 ∧ ∃ cell : Cell, H[a]? = some cell ∧ D.2.2.isArrayOf cell (.object "java/lang/Object") ∧ cell.vm = .none ∧ cell.cls = D.2.1 9 ∧ cell.slots.size = 0)
  | .inr o => D.2.2.heap.size ≤ a ∧ va_at D.1 ka_cl (a, .inr o) H
/-- the statics, the class object of arrays of objects, the one interface call -/
def ka_Z (D : ka_D) (sv : Nat → Nat) : Prop := va_Z "CellRows" "STEP_X" "[I" (.ref (sv 0)) (fun q => D.2.2.heap.size ≤ q) D.2.2 D.2.2.heap ∧ va_Z "CellRows" "STEP_Y" "[I" (.ref (sv 1)) (fun q => D.2.2.heap.size ≤ q) D.2.2 D.2.2.heap ∧ va_Z "java/util/ArrayList" "DEFAULTCAPACITY_EMPTY_ELEMENTDATA" "[Ljava/lang/Object;" (.ref (sv 2)) (fun q => D.2.2.heap.size ≤ q) D.2.2 D.2.2.heap ∧ va_Mi "[Ljava/lang/Object;" (sv 3) D.2.2 ∧ va_Fw "java/util/ArrayList" ⟨"java/util/Collection", "toArray", "()[Ljava/lang/Object;"⟩ ⟨"java/util/ArrayList", "toArray", "()[Ljava/lang/Object;"⟩ D.2.2
def ka_P (D : ka_D) (h : ka_H) (H : Heap) : Prop := H.size = h.2.1 ∧ D.2.2.heap.size ≤ H.size ∧ (∀ q : Nat, q < D.2.2.heap.size → H[q]? = D.2.2.heap[q]?) ∧ ka_Z D h.2.2.2 ∧ ∀ (a : Nat) (x : ka_C), h.1 a = some x → ka_at D a x H
/-- words that don't ride in the lists -/
def ka_nwp (w : Cond) : Bool := match w with
  | .fieldLinkNest .. => true
  | .methodLinkNest .. => true
  | .castable .. => true
  | .declares .. => true
  | .privateMethod .. => true
  | .arrayOver (.object _) => true
  | _ => false
def ka_nw : List Cond := lw_tbl.filter ka_nwp
/-- what the tables say, all through the run -/
def ka_U (D : ka_D) (U : State) : Prop := va_K D.1 ka_cl (ka_tys D) U ∧ D.2.2.vm.Alike U.vm ∧ ∀ w ∈ ka_nw, va_Nw w U
theorem ka_nw_warm {s U : State} (hW : s.WarmedH U.vm) (h : ∀ w ∈ ka_nw, va_Nw w s) : ∀ w ∈ ka_nw, va_Nw w U := by
  intro w hw
  have h1 := h w hw
  have h2 := (List.mem_filter.mp hw).2
  unfold ka_nwp at h2
  split at h2
  · exact va_Nw.warmF hW h1
  · exact va_Nw.warmM hW h1
  · exact va_Nw.warmC hW h1
  · exact va_Nw.warmD hW h1
  · exact va_tabs rfl (rfl : (s.setVm U.vm).vm = U.vm) (by rw [Cond.privateMethod_setVm hW.alike]; exact h1)
  · exact (va_AO.moved (hW.alike) h1 : va_AO _ U)
  · cases h2
theorem ka_U.warm {D : ka_D} {s U : State} (hW : s.WarmedH U.vm) (h : ka_U D s) : ka_U D U := ⟨va_K.moved hW.alike h.1, h.2.1.trans hW.alike, ka_nw_warm hW h.2.2⟩
theorem ka_nw_same {s U : State} (e : s.vm = U.vm) (h : ∀ w ∈ ka_nw, va_Nw w s) : ∀ w ∈ ka_nw, va_Nw w U := by
  intro w hw
  have h1 := h w hw
  have h2 := (List.mem_filter.mp hw).2
  unfold ka_nwp at h2
  split at h2
  · exact va_Nw.same rfl e h1
  · exact va_Nw.same rfl e h1
  · exact va_Nw.same rfl e h1
  · exact va_Nw.same rfl e h1
  · exact va_Nw.same rfl e h1
  · exact (va_AO.moved (by rw [e]; exact Vm.Alike.refl _) h1 : va_AO _ U)
  · cases h2
theorem ka_U.blind {D : ka_D} {U : State} {g : JFrame} {mk : MethodId} {a : Array Value} (h : ka_U D U) : ka_U D (U.calling g mk a) := ⟨va_K.moved (u := U) (U := U.calling g mk a) (Vm.Alike.refl U.vm) h.1, h.2.1, ka_nw_same (s := U) rfl h.2.2⟩
/-! ===== the judgement ===== -/
/-- where a method stands: its code, its class, the tables, its room -/
def ka_Cx (D : ka_D) (own : String) (cc : ByteArray) (nL : Nat) (nm : String) (FR LO : Nat) (p : Program) (R : Room) (s : State) (m : MethodId) (args : Array Value) (meth : Method) (c : Code) : Prop :=
  p.tables.exec = Jvm.exec ∧ c.code = cc ∧ c.maxLocals = nL ∧ s.vm.findClass own = some m.cls ∧ (∀ w ∈ lw_all, w.before args s = true) ∧ ka_U D s ∧ meth.locks = false ∧ FR ≤ R.frames ∧ LO ≤ R.locals ∧ meth.name = nm
/-- the instruction with which a method gives its answer -/
def ka_rd (cc : ByteArray) (pc : Nat) (v : Option Value) : Prop := match v with
  | none => decode cc pc = .ok (.return_, 1)
  | some (.int _) => decode cc pc = .ok (.ireturn, 1)
  | some (.ref _) => decode cc pc = .ok (.areturn, 1)
  | some .null => decode cc pc = .ok (.areturn, 1)
  | _ => False
/-- the code from pc on is k: where k answers, the machine comes to the return instruction with that answer and that heap -/
def ka_S (own : String) (cc : ByteArray) (nL : Nat) (nm : String) (FR LO : Nat) {β : Type} (cv : β → Option Value × ka_H) (pc : Nat) (k : ka_K β) : Prop :=
  ∀ (L : ka_L) (S : List Value) (h : ka_H) (b : β), k L S h = some b →
    (h.2.1 ≤ (cv b).2.2.1 ∧ h.2.2.1 ≤ (cv b).2.2.2.1 ∧ (cv b).2.2.2.2 = h.2.2.2) ∧
    ∀ (D : ka_D) (p : Program) (l : Launch) (e : Env) (R : Room) (s : State) (m : MethodId) (args : Array Value) (below : List Frame) (meth : Method) (c : Code) (nb sb : Nat) (Q : State → Prop),
      ka_Cx D own cc nL nm FR LO p R s m args meth c → nb ≤ h.2.1 → sb ≤ h.2.2.1 → (cv b).2.2.1 - nb ≤ R.cells → (cv b).2.2.2.1 - sb ≤ R.slots →
      (∀ (H : Heap) (locs : List Loc) (pc : Nat) (ls : Array Slot), ka_P D (cv b).2 H → (∀ q ∈ locs, D.2.2.heap.size ≤ q.base) → ka_rd cc pc (cv b).1 →
        W p l e R s m args below meth c H locs ((cv b).2.2.1 - nb) ((cv b).2.2.2.1 - sb) Q (F0 m pc ls (cv b).1.toList)) →
      ∀ (H : Heap) (locs : List Loc) (ls : Array Slot), ka_P D h H → (∀ q ∈ locs, D.2.2.heap.size ≤ q.base) → ka_lr ls nL L →
        W p l e R s m args below meth c H locs (h.2.1 - nb) (h.2.2.1 - sb) Q (F0 m pc ls S)
section KS
variable {own : String} {cc : ByteArray} {nL : Nat} {nm : String} {FR LO : Nat} {β : Type} {cv : β → Option Value × ka_H} {pc : Nat}
/-- an instruction that leaves the heap -/
theorem ks_step {k : ka_K β} (hk : ∀ (L : ka_L) (S : List Value) (h : ka_H) (b : β), k L S h = some b → ∃ (pc' : Nat) (k' : ka_K β) (L' : ka_L) (S' : List Value), ka_S own cc nL nm FR LO cv pc' k' ∧ k' L' S' h = some b ∧
    ∀ (D : ka_D) (p : Program) (l : Launch) (e : Env) (R : Room) (s : State) (m : MethodId) (args : Array Value) (below : List Frame) (meth : Method) (c : Code) (Q : State → Prop) (cells slots : Nat), ka_Cx D own cc nL nm FR LO p R s m args meth c →
      ∀ (H : Heap) (locs : List Loc) (ls : Array Slot), ka_P D h H → ka_lr ls nL L → (∀ ls' : Array Slot, ka_lr ls' nL L' → W p l e R s m args below meth c H locs cells slots Q (F0 m pc' ls' S')) → W p l e R s m args below meth c H locs cells slots Q (F0 m pc ls S)) : ka_S own cc nL nm FR LO cv pc k := by
  intro L S h b hb
  obtain ⟨pc', k', L', S', h1, h2, h3⟩ := hk L S h b hb
  obtain ⟨g1, g2⟩ := h1 L' S' h b h2
  refine ⟨g1, fun D p l e R s m args below meth c nb sb Q cx n1 n2 n3 n4 fin H locs ls hP hl hL => ?_⟩
  exact h3 D p l e R s m args below meth c Q _ _ cx H locs ls hP hL (fun ls' hL' => g2 D p l e R s m args below meth c nb sb Q cx n1 n2 n3 n4 fin H locs ls' hP hl hL')
end KS
