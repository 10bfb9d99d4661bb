/-! ===== helpers of the printed rows ===== -/
set_option maxRecDepth 100000
theorem ka_all1 {P : Nat → Prop} {a : Nat} (h : P a) : ∀ c ∈ [a], P c := fun c hc => by rw [List.mem_singleton.mp hc]; exact h
theorem ka_all2 {P : Nat → Prop} {a b : Nat} (h : P a) (h2 : P b) : ∀ c ∈ [a, b], P c := fun c hc => by
  rcases List.mem_cons.mp hc with rfl | hc
  · exact h
  · rw [List.mem_singleton.mp hc]; exact h2
theorem sp_X1 : ka_sep TX1 21 := by unfold ka_sep; decide +kernel
def nf_X1 : List Value := [.int 0, .int 0, .int 0, .null, .null, .null, .null, .null, .null, .int 0, .null, .int 0, .null, .null, .null, .null, .int 0, .int 0, .int 0, .null, .null]
theorem nfd_X1 : ∀ j, j < 21 → defaultValue (tyX1 j) = vp_V nf_X1 j := by decide +kernel
theorem sp_X3 : ka_sep TX3 2 := by unfold ka_sep; decide +kernel
def nf_X3 : List Value := [.null, .null]
theorem nfd_X3 : ∀ j, j < 2 → defaultValue (tyX3 j) = vp_V nf_X3 j := by decide +kernel
theorem sp_X4 : ka_sep TX4 2 := by unfold ka_sep; decide +kernel
def nf_X4 : List Value := [.null, .null]
theorem nfd_X4 : ∀ j, j < 2 → defaultValue (tyX4 j) = vp_V nf_X4 j := by decide +kernel
theorem sp_X13 : ka_sep TX13 11 := by unfold ka_sep; decide +kernel
def nf_X13 : List Value := [.null, .null, .null, .int 0, .null, .int 0, .null, .null, .null, .int 0, .null]
theorem nfd_X13 : ∀ j, j < 11 → defaultValue (tyX13 j) = vp_V nf_X13 j := by decide +kernel
theorem sp_X14 : ka_sep TX14 9 := by unfold ka_sep; decide +kernel
def nf_X14 : List Value := [.null, .null, .null, .int 0, .null, .null, .null, .null, .null]
theorem nfd_X14 : ∀ j, j < 9 → defaultValue (tyX14 j) = vp_V nf_X14 j := by decide +kernel
theorem sp_X10 : ka_sep TX10 4 := by unfold ka_sep; decide +kernel
def nf_X10 : List Value := [.int 0, .int 0, .int 0, .null]
theorem nfd_X10 : ∀ j, j < 4 → defaultValue (tyX10 j) = vp_V nf_X10 j := by decide +kernel
theorem sp_X6 : ka_sep TX6 9 := by unfold ka_sep; decide +kernel
def nf_X6 : List Value := [.int 0, .int 0, .int 0, .int 0, .int 0, .int 0, .int 0, .int 0, .null]
theorem nfd_X6 : ∀ j, j < 9 → defaultValue (tyX6 j) = vp_V nf_X6 j := by decide +kernel
theorem sp_X5 : ka_sep TX5 9 := by unfold ka_sep; decide +kernel
def nf_X5 : List Value := [.null, .null, .null, .null, .int 0, .int 0, .int 0, .int 0, .null]
theorem nfd_X5 : ∀ j, j < 9 → defaultValue (tyX5 j) = vp_V nf_X5 j := by decide +kernel
theorem sp_X7 : ka_sep TX7 4 := by unfold ka_sep; decide +kernel
def nf_X7 : List Value := [.int 0, .int 0, .null, .null]
theorem nfd_X7 : ∀ j, j < 4 → defaultValue (tyX7 j) = vp_V nf_X7 j := by decide +kernel
theorem sp_X8 : ka_sep TX8 5 := by unfold ka_sep; decide +kernel
def nf_X8 : List Value := [.int 0, .int 0, .int 0, .int 0, .int 0]
theorem nfd_X8 : ∀ j, j < 5 → defaultValue (tyX8 j) = vp_V nf_X8 j := by decide +kernel
theorem sp_X11 : ka_sep TX11 6 := by unfold ka_sep; decide +kernel
def nf_X11 : List Value := [.int 0, .int 0, .int 0, .int 0, .null, .null]
theorem nfd_X11 : ∀ j, j < 6 → defaultValue (tyX11 j) = vp_V nf_X11 j := by decide +kernel
theorem sp_X9 : ka_sep TX9 37 := by unfold ka_sep; decide +kernel
def nf_X9 : List Value := [.int 0, .int 0, .int 0, .int 0, .null, .null, .null, .null, .null, .int 0, .null, .null, .null, .int 0, .null, .null, .null, .null, .int 0, .null, .int 0, .null, .int 0, .null, .null, .int 0, .null, .null, .null, .null, .null, .null, .null, .null, .int 0, .long 0, .null]
theorem nfd_X9 : ∀ j, j < 37 → defaultValue (tyX9 j) = vp_V nf_X9 j := by decide +kernel
theorem sp_J3 : ka_sep TJ3 3 := by unfold ka_sep; decide +kernel
def nf_J3 : List Value := [.int 0, .null, .int 0]
theorem nfd_J3 : ∀ j, j < 3 → defaultValue (tyJ3 j) = vp_V nf_J3 j := by decide +kernel
/-! ===== calls of two classes, the interface call, copies, class objects ===== -/
/-- a call at an object of one of two classes -/
def ki_callD {β β' : Type} (n : Nat) (f1 f2 : List Value → ka_H → Option β') (c1 c2 : Nat) (cv' : β' → Option Value × ka_H) (K : ka_K β) : ka_K β := fun L S h => match S.drop n with
  | .ref a :: _ => if ka_isc h [c1] a = true then ki_callV n [c1] f1 cv' K L S h else ki_callV n [c2] f2 cv' K L S h
  | _ => none
/-- the words of arraycopy -/
theorem ka_acw : Cond.native arraycopyName ∈ lw_all ∧ Cond.static arraycopyName ∈ lw_all ∧ Cond.initialized "java/lang/System" ∈ lw_all := ⟨q1033, q1032, q154⟩
def ka_cpi (h : ka_H) (a0 : Nat) (sp : Int32) (a : Nat) (dp n : Int32) : Option ka_H := match h.1 a0, h.1 a with
  | some (.inl (k0, n0, .inl f)), some (.inl (k1, n1, .inl g)) => if (k0 = 0 ∧ k1 = 0) ∧ ¬ sp < 0 ∧ ¬ dp < 0 ∧ ¬ n < 0 ∧ sp.toNatClampNeg + n.toNatClampNeg ≤ n0 ∧ dp.toNatClampNeg + n.toNatClampNeg ≤ n1 then some (ka_up h.1 a (.inl (k1, n1, .inl (va_cpy f g sp.toNatClampNeg dp.toNatClampNeg n.toNatClampNeg))), h.2) else none
  | _, _ => none
/-- what is copied: objects of the two classes that lists hold, or null -/
def ka_els (h : ka_H) (f : Nat → Option Nat) (sp n : Nat) : Bool := (List.range n).all fun i => match f (sp + i) with
  | some y => ka_isc h [6, 10] y
  | none => true
theorem ka_els_spec {h : ka_H} {f : Nat → Option Nat} {sp n : Nat} (e : ka_els h f sp n = true) (i : Nat) (hi : i < n) (y : Nat) (hy : f (sp + i) = some y) : ka_isc h [6, 10] y = true := by
  have := List.all_eq_true.mp e i (List.mem_range.mpr hi)
  rw [hy] at this
  exact this
def ka_cpr (h : ka_H) (a0 : Nat) (sp : Int32) (a : Nat) (dp n : Int32) : Option ka_H := match h.1 a0, h.1 a with
  | some (.inl (k0, n0, .inr f)), some (.inl (k1, n1, .inr g)) => if ((k0 = 9 ∨ k0 = 51) ∧ k1 = 9) ∧ ¬ sp < 0 ∧ ¬ dp < 0 ∧ ¬ n < 0 ∧ sp.toNatClampNeg + n.toNatClampNeg ≤ n0 ∧ dp.toNatClampNeg + n.toNatClampNeg ≤ n1 ∧ ka_els h f sp.toNatClampNeg n.toNatClampNeg = true then some (ka_up h.1 a (.inl (k1, n1, .inr (va_cpy f g sp.toNatClampNeg dp.toNatClampNeg n.toNatClampNeg))), h.2) else none
  | _, _ => none
theorem ka_nn (z : Int32) (hz : ¬ z < 0) : z.toInt = (z.toNatClampNeg : Int) := by
  have hz0 : (0 : Int) ≤ z.toInt := by
    have := Int32.not_lt.mp hz
    simpa using Int32.le_iff_toInt_le.mp this
  show z.toInt = ((z.toInt.toNat : Nat) : Int)
  omega
section KX
variable {own : String} {cc : ByteArray} {nL : Nat} {nm : String} {FR LO : Nat} {β : Type} {cv : β → Option Value × ka_H} {pc : Nat} {index : Nat} {K : ka_K β}
theorem ks_ifc {K2 : ka_K β} {n c1 : Nat} (h1 : ka_S own cc nL nm FR LO cv pc K) (h2 : ka_S own cc nL nm FR LO cv pc K2) : ka_S own cc nL nm FR LO cv pc (fun L S h => match S.drop n with
  | .ref a :: _ => if ka_isc h [c1] a = true then K L S h else K2 L S h
  | _ => none) := by
  intro L S h b hb
  dsimp only at hb
  split at hb
  · split at hb
    · exact h1 L S h b hb
    · exact h2 L S h b hb
  · cases hb
theorem ks_callD {β' : Type} {cv' : β' → Option Value × ka_H} {f1 f2 : List Value → ka_H → Option β'} {x y1 y2 : MethodName} {b1 b2 : ByteArray} {L1 L2 : Nat} {ret : Option FieldType} {F1 O1 F2 O2 n c1 c2 : Nat} {owner : String} {v1 v2 : vw_C}
    (hM1 : ka_M y1 b1 L1 ret F1 O1 cv' f1) (hM2 : ka_M y2 b2 L2 ret F2 O2 cv' f2) (hd : decode cc pc = .ok (.invokevirtual index, 3)) (h1 : Cond.methodLink own index x ∈ lw_all) (h5 : Cond.sameMethod x.cls owner x.name x.desc ∈ lw_all) (h6 : Cond.declares ⟨owner, x.name, x.desc⟩ ∈ lw_tbl) (i1 : Cond.instanceMethod y1 ∈ lw_all) (i2 : Cond.instanceMethod y2 ∈ lw_all) (e1 : ka_cl[c1]? = some v1) (e2 : ka_cl[c2]? = some v2) (s1 : Cond.selects v1.1 x y1 ∈ lw_all) (s2 : Cond.selects v2.1 x y2 ∈ lw_all) (t1 : Cond.initialized y1.cls ∈ lw_all) (t2 : Cond.initialized y2.cls ∈ lw_all) (o1 : Cond.code y1 b1 L1 ret ∈ lw_all) (o2 : Cond.code y2 b2 L2 ret ∈ lw_all)
    (hno : owner ≠ "java/lang/invoke/MethodHandle" ∧ owner ≠ "java/lang/invoke/VarHandle" ∧ (parseMethodDescriptor x.desc).map (fun d => d.parameters.length) = some n) (r1 : F1 + 1 ≤ FR ∧ 8 + (L1 + 11) + O1 ≤ LO) (r2 : F2 + 1 ≤ FR ∧ 8 + (L2 + 11) + O2 ≤ LO) (hk : ka_S own cc nL nm FR LO cv (pc + 3) K) : ka_S own cc nL nm FR LO cv pc (ki_callD n f1 f2 c1 c2 cv' K) :=
  ks_ifc (ks_callU hM1 hd h1 h5 h6 i1 (ka_all1 ⟨_, e1, s1⟩) t1 o1 hno r1 hk) (ks_callU hM2 hd h1 h5 h6 i2 (ka_all1 ⟨_, e2, s2⟩) t2 o2 hno r2 hk)
theorem ka_Wcopy {α : Type} (mk : α → Value) {D : ka_D} {p : Program} {l : Launch} {e : Env} {R : Room} {s : State} {m : MethodId} {args : Array Value} {below : List Frame} {meth : Method} {c : Code} {Q : State → Prop} {cells slots : Nat} {H : Heap} {locs : List Loc} {ls : Array Slot} {S : List Value}
    {a0 a n0 n1 : Nat} {sp dp n : Int32} {f g : Nat → α} {cs : Cell} {c1 : ClassId} {ks kd : Class} {sC dC : ClassId} {sT dT : FieldType}
    (hd : decode cc pc = .ok (.invokestatic index, 3)) (hq : Cond.methodLink own index arraycopyName ∈ lw_all) (cx : ka_Cx D own cc nL nm FR LO p R s m args meth c) (hfr : 1 ≤ FR) (hlo : 60 ≤ LO) (hw : ka_w8 S = true) (hsz : ls.size = nL)
    (h0 : H[a0]? = some cs) (h1 : H[a]? = some (arrV c1 n1 (fun j => mk (g j)))) (o1 : ∀ k, cs.vm ≠ .statics k) (o2 : cs.vm ≠ .unknown) (k1 : s.vm.classes[cs.cls]? = some ks) (k2 : s.vm.classes[c1]? = some kd) (k3 : ks.kind = .array sC sT) (k4 : kd.kind = .array dC dT) (hty : ((refKind sT != refKind dT) || (!refKind sT && sT != dT)) = false)
    (p1 : ¬ sp < 0) (p2 : ¬ dp < 0) (p3 : ¬ n < 0) (hn0 : cs.slots.size = n0) (p4 : sp.toNatClampNeg + n.toNatClampNeg ≤ n0) (p5 : dp.toNatClampNeg + n.toNatClampNeg ≤ n1) (hcs : ∀ j, j < n0 → cs.slots[j]? = some (mk (f j)))
    (hvals : ∀ (T : State) (vm' : Vm), T.heap = H → s.vm.Alike vm' → ∀ i, i < n.toNatClampNeg → fits dT (mk (f (sp.toNatClampNeg + i))) = true ∧ (T.setVm vm').takes dC (mk (f (sp.toNatClampNeg + i)))) (ha : D.2.2.heap.size ≤ a) (hl : ∀ q ∈ locs, D.2.2.heap.size ≤ q.base)
    (kk : ∀ (H1 : Heap) (locs1 : List Loc), H1[a]? = some (arrV c1 n1 (fun j => mk (va_cpy f g sp.toNatClampNeg dp.toNatClampNeg n.toNatClampNeg j))) → H1.size = H.size → (∀ q : Nat, q ≠ a → H1[q]? = H[q]?) → (∀ q ∈ locs1, D.2.2.heap.size ≤ q.base) → W p l e R s m args below meth c H1 locs1 cells slots Q (F0 m (pc + 3) ls S)) :
    W p l e R s m args below meth c H locs cells slots Q (F0 m pc ls (.int n :: .int dp :: .ref a :: .int sp :: .ref a0 :: S)) := by
  obtain ⟨x1, x2, x3, x4, x5, x6, -, x8, x9, -⟩ := cx
  intro T hT X
  obtain ⟨vm', X', step⟩ := X.arraycopy x1 x4 (x5 _ hq) (x5 _ ka_acw.1) (x5 _ ka_acw.2.1) (x5 _ ka_acw.2.2) (src := a0) (dst := a) (cs := cs) (cd := arrV c1 n1 (fun j => mk (g j))) (srcPos := sp) (destPos := dp) (n := n) (by rw [hT]; exact h0) (by rw [hT]; exact h1)
    o1 (fun _ h => by cases h) o2 (fun h => by cases h) k1 k2 k3 k4 hty p1 p2 p3
    (by rw [ka_nn sp p1, ka_nn n p3, hn0]; omega)
    (by rw [ka_nn dp p2, ka_nn n p3, arrV_size]; omega)
    (fun vm₁ hal i hi => by
      have e : cs.slots.getD (sp.toNatClampNeg + i) .null = mk (f (sp.toNatClampNeg + i)) := by
        rw [Array.getD_eq_getD_getElem?, hcs _ (by omega)]
        rfl
      rw [e]
      exact hvals T vm₁ hT hal i hi)
    (g := F0 m pc ls (.int n :: .int dp :: .ref a :: .int sp :: .ref a0 :: S)) rfl (by rw [x3]; exact hsz) (rest := S) rfl (by rw [x2]; exact hd) (Nat.le_trans hfr x8) (by
      have h8 := ka_w8_spec hw
      have hnw : nativeFrameWords "java/lang/System" "arraycopy" 5 ≤ 30 := by decide
      show 2 * 0 + _ + _ ≤ _
      omega)
  have e1 : copied cs (arrV c1 n1 (fun j => mk (g j))) sp dp n = arrV c1 n1 (fun j => mk (va_cpy f g sp.toNatClampNeg dp.toNatClampNeg n.toNatClampNeg j)) := va_copiedX mk cs c1 f g hcs p4
  rw [e1] at X' step
  have hlt : a < H.size := (Array.getElem?_eq_some_iff.mp h1).1
  generalize hcl : arrV c1 n1 (fun j => mk (va_cpy f g sp.toNatClampNeg dp.toNatClampNeg n.toNatClampNeg j)) = nc at X' step kk
  have hheap : ((T.setVm vm').setCell a nc).heap = H.setIfInBounds a nc := by rw [← hT]; rfl
  obtain ⟨t, a1, b1⟩ := kk (H.setIfInBounds a nc) _ (by simp [Array.getElem?_setIfInBounds, hlt]) (by simp) (fun q hq => by simp [Array.getElem?_setIfInBounds, Ne.symm hq]) (fun q hq => by
      rcases List.mem_append.mp hq with h | h
      · exact hl q h
      · obtain ⟨z, -, hz⟩ := List.mem_map.mp h
        rw [← hz]
        exact ha) _ hheap X'
  exact ⟨t, step t a1, b1⟩
def ki_copyi (K : ka_K β) : ka_K β := fun L S h => match S with
  | .int n :: .int dp :: .ref a :: .int sp :: .ref a0 :: S => if ka_w8 S = true then (ka_cpi h a0 sp a dp n).bind fun h' => K L S h' else none
  | _ => none
def ki_copyr (K : ka_K β) : ka_K β := fun L S h => match S with
  | .int n :: .int dp :: .ref a :: .int sp :: .ref a0 :: S => if ka_w8 S = true then (ka_cpr h a0 sp a dp n).bind fun h' => K L S h' else none
  | _ => none
theorem ka_copy_step {L : ka_L} {S S0 : List Value} {h h' : ka_H} {b : β} {pc' : Nat} (e2 : h'.2 = h.2) (hk : ka_S own cc nL nm FR LO cv pc' K) (hb : K L S h' = some b)
    (hW : ∀ (D : ka_D) (p : Program) (l : Launch) (e : Env) (R : Room) (s : State) (m : MethodId) (args : Array Value) (below : List Frame) (meth : Method) (c : Code) (Q : State → Prop) (cells slots : Nat), ka_Cx D own cc nL nm FR LO p R s m args meth c → ∀ (H : Heap) (locs : List Loc) (ls : Array Slot), ka_P D h H → (∀ q ∈ locs, D.2.2.heap.size ≤ q.base) → ls.size = nL → (∀ (H' : Heap) (locs' : List Loc), ka_P D h' H' → (∀ q ∈ locs', D.2.2.heap.size ≤ q.base) → W p l e R s m args below meth c H' locs' cells slots Q (F0 m pc' ls S)) → W p l e R s m args below meth c H locs cells slots Q (F0 m pc ls S0)) :
    ∃ (pc' : Nat) (k' : ka_K β) (L' : ka_L) (S' : List Value) (h' : ka_H), ka_S own cc nL nm FR LO cv pc' k' ∧ k' L' S' h' = some b ∧ h.2.1 ≤ h'.2.1 ∧ h.2.2.1 ≤ h'.2.2.1 ∧ h'.2.2.2 = h.2.2.2 ∧
    ∀ (D : ka_D) (p : Program) (l : Launch) (e : Env) (R : Room) (s : State) (m : MethodId) (args : Array Value) (below : List Frame) (meth : Method) (c : Code) (Q : State → Prop) (cells slots : Nat), ka_Cx D own cc nL nm FR LO p R s m args meth c → cells + (h'.2.1 - h.2.1) ≤ R.cells → slots + (h'.2.2.1 - h.2.2.1) ≤ R.slots →
      ∀ (H : Heap) (locs : List Loc) (ls : Array Slot), ka_P D h H → (∀ q ∈ locs, D.2.2.heap.size ≤ q.base) → ka_lr ls nL L → (∀ (H' : Heap) (locs' : List Loc) (ls' : Array Slot), ka_P D h' H' → (∀ q ∈ locs', D.2.2.heap.size ≤ q.base) → ka_lr ls' nL L' → W p l e R s m args below meth c H' locs' (cells + (h'.2.1 - h.2.1)) (slots + (h'.2.2.1 - h.2.2.1)) Q (F0 m pc' ls' S')) → W p l e R s m args below meth c H locs cells slots Q (F0 m pc ls S0) := by
  refine ⟨pc', K, L, S, h', hk, hb, by rw [e2]; exact Nat.le_refl _, by rw [e2]; exact Nat.le_refl _, by rw [e2], fun D p l e R s m args below meth c Q cells slots cx _ _ H locs ls hP hl hL kk => ?_⟩
  refine hW D p l e R s m args below meth c Q cells slots cx H locs ls hP hl hL.1 (fun H' locs' hP' hl' => ?_)
  have := kk H' locs' ls hP' hl' hL
  rw [e2, Nat.sub_self, Nat.sub_self, Nat.add_zero, Nat.add_zero] at this
  exact this
theorem ks_copyi (hd : decode cc pc = .ok (.invokestatic index, 3)) (hq : Cond.methodLink own index arraycopyName ∈ lw_all) (hfr : 1 ≤ FR) (hlo : 60 ≤ LO) (hk : ka_S own cc nL nm FR LO cv (pc + 3) K) : ka_S own cc nL nm FR LO cv pc (ki_copyi K) := by
  refine ks_heap fun L S h b hb => ?_
  unfold ki_copyi at hb
  split at hb
  · next n dp a sp a0 S =>
    split at hb
    · next hw =>
      obtain ⟨h', hx, hb⟩ := Option.bind_eq_some_iff.mp hb
      unfold ka_cpi at hx
      split at hx
      · next k0 n0 f k1 n1 g e0 e1 =>
        split at hx
        · next hc =>
          obtain ⟨⟨rfl, rfl⟩, p1, p2, p3, p4, p5⟩ := hc
          cases hx
          refine ka_copy_step (by rfl) hk hb fun D p l e R s m args below meth c Q cells slots cx H locs ls hP hl hsz kk => ?_
          obtain ⟨w1, w2, w3⟩ := ka_arr (hP.2.2.2.2 _ _ e0) (by decide)
          obtain ⟨v1, v2, v3⟩ := ka_arr (hP.2.2.2.2 _ _ e1) (by decide)
          obtain ⟨-, k0, hk0, cm0, hkk0⟩ := (cx.2.2.2.2.2.1.1.2 0 _ (ka_tys_at rfl)).1 n0 (fun j => .int (f j))
          refine ka_Wcopy (α := Int32) (fun z => .int z) (f := f) (g := g) (c1 := D.2.1 0) hd hq cx hfr hlo hw hsz w3 v3 (fun _ h => by cases h) (fun h => by cases h) hk0 hk0 hkk0 hkk0 rfl p1 p2 p3 (arrV_size _ _ _) p4 p5 (fun j hj => arrV_read _ _ hj) (fun T vm' _ _ i hi => ⟨rfl, trivial⟩) v2 hl fun H1 locs1 g1 g2 g3 g4 => ?_
          exact kk H1 locs1 (hP.put v2 g2 g3 (ka_arr_of (by decide) v2 g1)) g4
        · cases hx
      · cases hx
    · cases hb
  · cases hb
theorem ka_any {D : ka_D} {s : State} {h : ka_H} {H : Heap} {y : Nat} {comp : ClassId} (hU : ka_U D s) (hP : ka_P D h H) (e : ka_isc h [6, 10] y = true) (hc : s.vm.findClass "java/lang/Object" = some comp) : ∃ cellV : Cell, H[y]? = some cellV ∧ cellV.vm.isStatics = false ∧ (∃ kC : Class, s.vm.classes[cellV.cls]? = some kC) ∧ s.vm.assignable cellV.cls comp = true := by
  obtain ⟨c, fs, g1, g2⟩ := ka_isc_spec e
  obtain ⟨-, r, hr, cell, q1, q2, q3, -⟩ := hP.2.2.2.2 _ _ g1
  have ht : ka_takes 9 c = true := by
    simp only [List.mem_cons, List.not_mem_nil, or_false] at g2
    rcases g2 with rfl | rfl <;> rfl
  obtain ⟨kA, kcomp, comp', t, a1, a2, a3, a4, a5, kv, a6⟩ := ka_asg hU ht
  obtain ⟨kA', comp'', k1, k2, k3, -⟩ := (hU.1.2 9 _ (ka_tys_at rfl)).2
  cases a1.symm.trans k1
  cases a2.symm.trans k2
  cases k3.symm.trans hc
  exact ⟨cell, q1, by rw [q3]; rfl, ⟨kv, by rw [q2]; exact a6⟩, by rw [q2]; exact a5⟩
theorem ks_copyr (hd : decode cc pc = .ok (.invokestatic index, 3)) (hq : Cond.methodLink own index arraycopyName ∈ lw_all) (hfr : 1 ≤ FR) (hlo : 60 ≤ LO) (hk : ka_S own cc nL nm FR LO cv (pc + 3) K) : ka_S own cc nL nm FR LO cv pc (ki_copyr K) := by
  refine ks_heap fun L S h b hb => ?_
  unfold ki_copyr at hb
  split at hb
  · next n dp a sp a0 S =>
    split at hb
    · next hw =>
      obtain ⟨h', hx, hb⟩ := Option.bind_eq_some_iff.mp hb
      unfold ka_cpr at hx
      split at hx
      · next k0 n0 f k1 n1 g e0 e1 =>
        split at hx
        · next hc =>
          obtain ⟨⟨hk0, rfl⟩, p1, p2, p3, p4, p5, p6⟩ := hc
          cases hx
          refine ka_copy_step (by rfl) hk hb fun D p l e R s m args below meth c Q cells slots cx H locs ls hP hl hsz kk => ?_
          obtain ⟨v1, v2, v3⟩ := ka_arr (hP.2.2.2.2 _ _ e1) (by decide)
          have hU := cx.2.2.2.2.2.1
          obtain ⟨kA, comp, r1, r2, r3, -⟩ := (hU.1.2 9 _ (ka_tys_at rfl)).2
          have hvals : ∀ (T : State) (vm' : Vm), T.heap = H → s.vm.Alike vm' → ∀ i, i < n.toNatClampNeg → fits (.object "java/lang/Object") (va_rf (f (sp.toNatClampNeg + i))) = true ∧ (T.setVm vm').takes comp (va_rf (f (sp.toNatClampNeg + i))) := by
            intro T vm' hT hal i hi
            cases hy : f (sp.toNatClampNeg + i) with
            | none => exact ⟨rfl, trivial⟩
            | some y =>
              obtain ⟨cellV, g1, g2, ⟨kC, hkC⟩, hasg⟩ := ka_any hU hP (ka_els_spec p6 i hi y hy) r3
              obtain ⟨kE, hkE, -⟩ := Vm.findClass_spec r3
              obtain ⟨kC', hkC', -⟩ := hal.2.2 _ _ hkC
              obtain ⟨kE', hkE', -⟩ := hal.2.2 _ _ hkE
              refine ⟨rfl, cellV, (show T.heap[y]? = some cellV by rw [hT]; exact g1), (fun q h => by rw [h] at g2; cases g2), ⟨kC', hkC'⟩, ⟨kE', hkE'⟩, ?_⟩
              show vm'.assignable _ _ = true
              rw [hal.assignable]
              exact hasg
          rcases hk0 with rfl | rfl
          · obtain ⟨w1, w2, w3⟩ := ka_arr (hP.2.2.2.2 _ _ e0) (by decide)
            refine ka_Wcopy (α := Option Nat) (fun z => va_rf z) (f := f) (g := g) (c1 := D.2.1 9) hd hq cx hfr hlo hw hsz w3 v3 (fun _ h => by cases h) (fun h => by cases h) r1 r1 r2 r2 rfl p1 p2 p3 (arrV_size _ _ _) p4 p5 (fun j hj => arrV_read _ _ hj) hvals v2 hl fun H1 locs1 g1 g2 g3 g4 => ?_
            exact kk H1 locs1 (hP.put v2 g2 g3 (ka_arr_of (by decide) v2 g1)) g4
          · have hA := hP.2.2.2.2 _ _ e0
            simp only [ka_at] at hA
            rw [if_neg (by decide)] at hA
            obtain ⟨-, z0, cell, z1, z2, z3, z4, z5⟩ := hA
            subst z0
            refine ka_Wcopy (α := Option Nat) (fun z => va_rf z) (f := f) (g := g) (cs := cell) (c1 := D.2.1 9) hd hq cx hfr hlo hw hsz z1 v3 (fun _ h => by rw [z3] at h; cases h) (fun h => by rw [z3] at h; cases h) (by rw [z4]; exact r1) r1 r2 r2 rfl p1 p2 p3 z5 p4 p5 (fun j hj => absurd hj (Nat.not_lt_zero _)) hvals v2 hl fun H1 locs1 g1 g2 g3 g4 => ?_
            exact kk H1 locs1 (hP.put v2 g2 g3 (ka_arr_of (by decide) v2 g1)) g4
        · cases hx
      · cases hx
    · cases hb
  · cases hb
/-! class objects of arrays of objects -/
def ki_getC (K : ka_K β) : ka_K β := fun L S h => match S with
  | .ref a :: S => match h.1 a with
    | some (.inl (k, _, .inr _)) => if (k = 9 ∨ k = 51) ∧ ka_w8 S = true then K L (.ref (h.2.2.2 3) :: S) h else none
    | _ => none
  | _ => none
theorem ks_ldcM (hd : decode cc pc = .ok (.ldc index, 2)) (hq : Cond.classLink own index "[Ljava/lang/Object;" ∈ lw_all) (hk : ka_S own cc nL nm FR LO cv (pc + 2) K) : ka_S own cc nL nm FR LO cv pc (ki_gets 3 K) := by
  refine ks_step fun L S h b hb => ⟨_, K, L, _, hk, hb, fun D p l e R s m args below meth c Q cells slots cx H locs ls hP hL kk => ?_⟩
  obtain ⟨x1, x2, x3, x4, x5, x6, -⟩ := cx
  exact va_ldcM x1 x2 x4 (x5 _ hq) (va_Mi.moved x6.2.1 hP.2.2.2.1.2.2.2.1) hd (kk ls hL)
theorem ks_getC (hd : decode cc pc = .ok (.invokevirtual index, 3)) (hq : Cond.methodLink own index ⟨"java/lang/Object", "getClass", "()Ljava/lang/Class;"⟩ ∈ lw_all) (hfr : 1 ≤ FR) (hlo : 60 ≤ LO) (hk : ka_S own cc nL nm FR LO cv (pc + 3) K) : ka_S own cc nL nm FR LO cv pc (ki_getC K) := by
  refine ks_step fun L S h b hb => ?_
  unfold ki_getC at hb
  split at hb
  · next a S =>
    split at hb
    · next k n g e0 =>
      split at hb
      · next hc =>
        refine ⟨_, K, L, _, hk, hb, fun D p l e R s m args below meth c Q cells slots cx H locs ls hP hL kk => ?_⟩
        obtain ⟨x1, x2, x3, x4, x5, x6, -, x8, x9, -⟩ := cx
        have hfc : s.vm.findClass "[Ljava/lang/Object;" = some (D.2.1 9) := va_nmO ((x6.1.2 9 _ (ka_tys_at rfl)).2) (by decide +kernel)
        have hr : ∃ cell : Cell, H[a]? = some cell ∧ cell.vm.isStatics = false ∧ s.vm.findClass "[Ljava/lang/Object;" = some cell.cls := by
          have hA := hP.2.2.2.2 _ _ e0
          rcases hc.1 with rfl | rfl
          · obtain ⟨w1, w2, w3⟩ := ka_arr hA (by decide)
            exact ⟨_, w3, rfl, hfc⟩
          · simp only [ka_at] at hA
            rw [if_neg (by decide)] at hA
            obtain ⟨-, z0, cell, z1, z2, z3, z4, z5⟩ := hA
            exact ⟨cell, z1, by rw [z3]; rfl, by rw [z4]; exact hfc⟩
        have h8 := ka_w8_spec hc.2
        exact va_getC x1 x2 (by rw [x3]; exact hL.1.symm) x4 (x5 _ hq) (va_Nw.use rfl (x6.2.2 _ (ka_nw_mem q2071 rfl))) (x5 _ q2070) (x5 _ q1008) (x5 _ q1023) (va_Mi.moved x6.2.1 hP.2.2.2.1.2.2.2.1) hr (Nat.le_trans hfr x8) (by omega) hd (kk ls hL)
      · cases hb
    · cases hb
  · cases hb
theorem ks_callF {f : List Value → ka_H → Option (Nat × ka_H)} {bytes : ByteArray} {maxL FR' LO' : Nat} {count : Nat} (hM : ka_M yJ3_toArray bytes maxL (some (.array (.object "java/lang/Object"))) FR' LO' ka_cvR f) (hd : decode cc pc = .ok (.invokeinterface index count, 5)) (h1 : Cond.methodLink own index ⟨"java/util/Collection", "toArray", "()[Ljava/lang/Object;"⟩ ∈ lw_all) (h2 : Cond.instanceMethod yJ3_toArray ∈ lw_all) (h5 : Cond.selects "java/util/ArrayList" ⟨"java/util/Collection", "toArray", "()[Ljava/lang/Object;"⟩ yJ3_toArray ∈ lw_all) (h3 : Cond.initialized yJ3_toArray.cls ∈ lw_all) (h4 : Cond.code yJ3_toArray bytes maxL (some (.array (.object "java/lang/Object"))) ∈ lw_all)
    (ho : FR' + 1 ≤ FR ∧ 8 + (maxL + 11) + LO' ≤ LO) (hk : ka_S own cc nL nm FR LO cv (pc + 5) K) : ka_S own cc nL nm FR LO cv pc (ki_callV 0 [12] f ka_cvR K) := by
  refine ks_heap fun L S h b hb => ?_
  unfold ki_callV at hb
  split at hb
  · next a S' hS =>
    split at hb
    · next hc2 =>
      split at hb
      · next hc =>
        obtain ⟨r, hx, hb⟩ := Option.bind_eq_some_iff.mp hb
        obtain ⟨⟨m1, m2, m3⟩, hMet⟩ := hM _ _ _ hx
        obtain ⟨ci, fs, g1, g2⟩ := ka_isc_spec hc
        have e12 : ci = 12 := List.mem_singleton.mp g2
        subst e12
        refine ka_call_step m1 m2 m3 hk hb fun D p l e R s m args below meth c Q cells slots cx r1 r2 H locs ls hP hl hsz kk => ?_
        obtain ⟨x1, x2, x3, x4, x5, x6, -, x8, x9, -⟩ := cx
        have hst : S = .ref a :: S' := hS
        have hp : PreV s H "java/util/ArrayList" a (va_Pc [.ref a] (fun U => ka_P D h U.heap ∧ ka_U D U)) [] := ⟨ka_blind, ka_recv x6 hP g1 rfl, ka_pre hP x6⟩
        have hF := va_Fw.moved (by decide +kernel) x6.2.1 hP.2.2.2.1.2.2.2.2
        have hG : GoodIn lw_all (va_wsF own index "java/util/ArrayList" ⟨"java/util/Collection", "toArray", "()[Ljava/lang/Object;"⟩ yJ3_toArray (ws_ yJ3_toArray bytes maxL (some (.array (.object "java/lang/Object"))))) := by
          unfold va_wsF
          refine lw_app (fun w hw => ?_) (lw_meth h4)
          simp only [List.mem_cons, List.not_mem_nil, or_false] at hw
          rcases hw with rfl | rfl | rfl | rfl
          · exact h1
          · exact h5
          · exact h2
          · exact h3
        exact ka_Wcall5 (va_runF (C := "java/util/ArrayList") (As := []) (rest := S') (x6.1.1 12 _ rfl).2 ⟨x1, x2, x3, x4, x5⟩ (hMet l D) (va_cwF 0 x5 hG rfl rfl rfl hF (by decide +kernel) ⟨Nat.le_trans ho.1 x8, Nat.le_trans ho.2 x9⟩) hp rfl rfl hsz hst (lv_room (ka_w8_spec hc2)) hd ⟨r1, r2⟩) hl kk
      · cases hb
    · cases hb
  · cases hb
end KX
/-! a table of jumps, its cases as a list -/
def ka_tl {β : Type} (P : Nat → ka_K β → Prop) : List Nat → List (ka_K β) → Prop
  | [], [] => True
  | t :: ts, K :: Ks => P t K ∧ ka_tl P ts Ks
  | _, _ => False
theorem ka_tl_spec {β : Type} {P : Nat → ka_K β → Prop} : ∀ (ts : List Nat) (Ks : List (ka_K β)), ka_tl P ts Ks → Ks.length = ts.length ∧ ∀ (i t : Nat) (K : ka_K β), ts[i]? = some t → Ks[i]? = some K → P t K
  | [], [], _ => ⟨rfl, fun i t K h => by simp at h⟩
  | t :: ts, K :: Ks, h => by
    obtain ⟨e, g⟩ := ka_tl_spec ts Ks h.2
    refine ⟨by simp [e], fun i t' K' h1 h2 => ?_⟩
    cases i with
    | zero => simp at h1 h2; subst h1; subst h2; exact h.1
    | succ i => simp at h1 h2; exact g i t' K' h1 h2
  | [], _ :: _, h => h.elim
  | _ :: _, [], h => h.elim
theorem ks_tabL {own : String} {cc : ByteArray} {nL : Nat} {nm : String} {FR LO : Nat} {β : Type} {cv : β → Option Value × ka_H} {pc : Nat} {Ks : List (ka_K β)} {Kd : ka_K β} {dflt lo hi : Int} {offs : Array Int} {len : Nat} (tgts : List Nat) (td : Nat) (hd : decode cc pc = .ok (.tableswitch dflt lo hi offs, len)) (hoff : offs.toList = tgts.map (fun t : Nat => (t : Int) - (pc : Int))) (hhi : lo + (tgts.length : Int) = hi + 1) (htd : (pc : Int) + dflt = (td : Int))
    (h1 : ka_tl (fun t K => ka_S own cc nL nm FR LO cv t K) tgts Ks) (h2 : ka_S own cc nL nm FR LO cv td Kd) : ka_S own cc nL nm FR LO cv pc (ki_tab lo Ks Kd) :=
  ks_tab tgts td hd hoff (ka_tl_spec _ _ h1).1 hhi htd (ka_tl_spec _ _ h1).2 h2
/-! a private method of a superclass -/
theorem ka_selP {C : String} {x y z : MethodName} {s : State} {args : Array Value} (hy : y.cls ≠ "java/lang/invoke/MethodHandle" ∧ y.cls ≠ "java/lang/invoke/VarHandle") (hz : (Cond.selects C x z).before args s = true) (hzc : z.cls = y.cls) (hpriv : (Cond.privateMethod y).before args s = true) (hinst : (Cond.instanceMethod y).before args s = true) : (Cond.selects C y y).before args s = true := by
  obtain ⟨c, r, mz, hc, -, hn, -, kP, hkP, hkPi⟩ := Cond.selects_spec hz
  obtain ⟨mk, methM, hnamed, hmethM, -, -⟩ := Cond.instanceMethod_spec hinst
  have hfound : s.methodFound? y.cls y.name y.desc = some mk := State.methodFound?_of_named hnamed hy
  have e : mk.cls = mz.cls := Option.some.inj ((findClass_of_methodNamed hnamed).symm.trans (by rw [← hzc]; exact findClass_of_methodNamed hn))
  have hsel : selectMethod {} s.vm c mk = .method mk := selectMethod_private hmethM (Cond.privateMethod_at hpriv mk methM hnamed hmethM)
  simp only [Cond.before, Cond.holds, Cond.value, hc, hfound, hnamed, hsel, e, hkP]
  simp; exact hkPi
theorem ks_callP {own : String} {cc : ByteArray} {nL : Nat} {nm : String} {FR LO : Nat} {β : Type} {cv : β → Option Value × ka_H} {pc : Nat} {index : Nat} {K : ka_K β} {β' : Type} {cv' : β' → Option Value × ka_H} {f : List Value → ka_H → Option β'} {y z : MethodName} {bytes : ByteArray} {maxL : Nat} {ret : Option FieldType} {FR' LO' : Nat} {n : Nat} {cs : List Nat} (hM : ka_M y bytes maxL ret FR' LO' cv' f) (hd : decode cc pc = .ok (.invokevirtual index, 3)) (h1 : Cond.methodLink own index y ∈ lw_all) (h2 : Cond.instanceMethod y ∈ lw_all) (hp : Cond.privateMethod y ∈ lw_tbl) (hzc : z.cls = y.cls) (hse : ∀ c ∈ cs, ∃ (q : vw_C) (x : MethodName), ka_cl[c]? = some q ∧ Cond.selects q.1 x z ∈ lw_all) (h3 : Cond.initialized y.cls ∈ lw_all) (h4 : Cond.code y bytes maxL ret ∈ lw_all) (ho : ka_ok y n maxL FR' LO' FR LO) (hk : ka_S own cc nL nm FR LO cv (pc + 3) K) : ka_S own cc nL nm FR LO cv pc (ki_callV n cs f cv' K) := by
  refine ks_heap fun L S h b hb => ?_
  unfold ki_callV at hb
  split at hb
  · next a S' hS =>
    split at hb
    · next hc2 =>
      split at hb
      · next hc =>
        obtain ⟨r, hx, hb⟩ := Option.bind_eq_some_iff.mp hb
        obtain ⟨⟨m1, m2, m3⟩, hMet⟩ := hM _ _ _ hx
        obtain ⟨ci, fs, g1, g2⟩ := ka_isc_spec hc
        obtain ⟨q, x0, q1, q2⟩ := hse ci g2
        refine ka_call_step m1 m2 m3 hk hb fun D p l e R s m args below meth c Q cells slots cx r1 r2 H locs ls hP hl hsz kk => ?_
        obtain ⟨x1, x2, x3, x4, x5, x6, -, x8, x9, -⟩ := cx
        have hln : n < S.length := by
          have := congrArg List.length hS
          simp at this
          omega
        have hlen : (S.take n).reverse.length = n := by simp; omega
        have hst : S = (S.take n).reverse.reverse ++ .ref a :: S' := by rw [List.reverse_reverse, ← hS, List.take_append_drop]
        have hpv : PreV s H q.1 a (va_Pc (.ref a :: (S.take n).reverse) (fun U => ka_P D h U.heap ∧ ka_U D U)) (S.take n).reverse := ⟨ka_blind, ka_recv x6 hP g1 q1, ka_pre hP x6⟩
        exact ka_Wcall (va_runV (C := q.1) (As := (S.take n).reverse) (rest := S') ⟨x1, x2, x3, x4, x5⟩ (hMet l D) ⟨callB_of n x5 (lw_meth h4) rfl rfl rfl (x5 _ h3) (x5 _ h1) ho.1 ⟨Nat.le_trans ho.2.1 x8, Nat.le_trans ho.2.2 x9⟩, x5 _ h2, ka_selP ⟨ho.1.1, ho.1.2.1⟩ (x5 _ q2) hzc (va_Nw.use rfl (x6.2.2 _ (ka_nw_mem hp rfl))) (x5 _ h2)⟩ hpv rfl hlen hsz hst (lv_room (ka_w8_spec hc2)) hd ⟨r1, r2⟩) hl kk
      · cases hb
    · cases hb
  · cases hb
/-! an array of arrays of ints -/
def ka_mkm (h : ka_H) (n k : Nat) : ka_H := (fun q => if q = h.2.1 then some (.inl (8, n, .inr fun i => if i < n then some (h.2.1 + 1 + i) else none)) else if h.2.1 < q ∧ q ≤ h.2.1 + n then some (.inl (0, k, .inl fun _ => 0)) else h.1 q, h.2.1 + (1 + n), h.2.2.1 + (n + n * k), h.2.2.2)
def ki_newm {β : Type} (K : ka_K β) : ka_K β := fun L S h => match S with
  | .int k :: .int n :: S => if (n < 0 ∨ k < 0) ∨ 1000 < n.toNatClampNeg ∨ 1000 < k.toNatClampNeg then none else K L (.ref h.2.1 :: S) (ka_mkm h n.toNatClampNeg k.toNatClampNeg)
  | _ => none
theorem ks_newm {own : String} {cc : ByteArray} {nL : Nat} {nm : String} {FR LO : Nat} {β : Type} {cv : β → Option Value × ka_H} {pc : Nat} {index : Nat} {K : ka_K β} (hd : decode cc pc = .ok (.multianewarray index 2, 4)) (hq : Cond.classLink own index "[[I" ∈ lw_all) (hk : ka_S own cc nL nm FR LO cv (pc + 4) K) : ka_S own cc nL nm FR LO cv pc (ki_newm K) := sorry
