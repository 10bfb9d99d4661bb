/-! ===== instructions that leave the heap ===== -/
section KI
variable {own : String} {cc : ByteArray} {nL : Nat} {nm : String} {FR LO : Nat} {β : Type} {cv : β → Option Value × ka_H} {pc : Nat}
def ki_push (v : Value) (K : ka_K β) : ka_K β := fun L S h => K L (v :: S) h
theorem ks_iconst {K : ka_K β} {n : Int} {v : Int32} (hd : decode cc pc = .ok (.iconst n, 1)) (hv : Int32.ofInt n = v) (hk : ka_S own cc nL nm FR LO cv (pc + 1) K) : ka_S own cc nL nm FR LO cv pc (ki_push (.int v) K) :=
  ks_step fun L S h b hb => ⟨_, K, L, _, hk, hb, fun D p l e R s m args below meth c Q cells slots cx H locs ls hP hL kk => lv_iconst cx.1 cx.2.1 hd hv (kk ls hL)⟩
theorem ks_bipush {K : ka_K β} {n : Int} {v : Int32} (hd : decode cc pc = .ok (.bipush n, 2)) (hv : (Int8.ofInt n).toInt32 = v) (hk : ka_S own cc nL nm FR LO cv (pc + 2) K) : ka_S own cc nL nm FR LO cv pc (ki_push (.int v) K) :=
  ks_step fun L S h b hb => ⟨_, K, L, _, hk, hb, fun D p l e R s m args below meth c Q cells slots cx H locs ls hP hL kk => lv_bipush cx.1 cx.2.1 hd hv (kk ls hL)⟩
theorem ks_sipush {K : ka_K β} {n : Int} {v : Int32} (hd : decode cc pc = .ok (.sipush n, 3)) (hv : (Int16.ofInt n).toInt32 = v) (hk : ka_S own cc nL nm FR LO cv (pc + 3) K) : ka_S own cc nL nm FR LO cv pc (ki_push (.int v) K) :=
  ks_step fun L S h b hb => ⟨_, K, L, _, hk, hb, fun D p l e R s m args below meth c Q cells slots cx H locs ls hP hL kk => lv_sipush cx.1 cx.2.1 hd hv (kk ls hL)⟩
theorem ks_lconst {K : ka_K β} {n : Fin 2} {v : Int64} (hd : decode cc pc = .ok (.lconst n, 1)) (hv : Int64.ofNat (n : Nat) = v) (hk : ka_S own cc nL nm FR LO cv (pc + 1) K) : ka_S own cc nL nm FR LO cv pc (ki_push (.long v) K) :=
  ks_step fun L S h b hb => ⟨_, K, L, _, hk, hb, fun D p l e R s m args below meth c Q cells slots cx H locs ls hP hL kk => lv_lconst cx.1 cx.2.1 hd hv (kk ls hL)⟩
theorem ks_ldc {K : ka_K β} {index : Nat} {v : Int32} (hd : decode cc pc = .ok (.ldc index, 2)) (hq : Cond.constant own index v ∈ lw_all) {w : Int32} (hv : v = w) (hk : ka_S own cc nL nm FR LO cv (pc + 2) K) : ka_S own cc nL nm FR LO cv pc (ki_push (.int w) K) := by
  subst hv
  exact ks_step fun L S h b hb => ⟨_, K, L, _, hk, hb, fun D p l e R s m args below meth c Q cells slots cx H locs ls hP hL kk => lv_ldc cx.1 cx.2.1 cx.2.2.2.1 (cx.2.2.2.2.1 _ hq) hd (kk ls hL)⟩
theorem ks_ldcw {K : ka_K β} {index : Nat} {v : Int32} (hd : decode cc pc = .ok (.ldc_w index, 3)) (hq : Cond.constant own index v ∈ lw_all) {w : Int32} (hv : v = w) (hk : ka_S own cc nL nm FR LO cv (pc + 3) K) : ka_S own cc nL nm FR LO cv pc (ki_push (.int w) K) := by
  subst hv
  exact ks_step fun L S h b hb => ⟨_, K, L, _, hk, hb, fun D p l e R s m args below meth c Q cells slots cx H locs ls hP hL kk => lv_ldcw cx.1 cx.2.1 cx.2.2.2.1 (cx.2.2.2.2.1 _ hq) hd (kk ls hL)⟩
theorem ks_ldc2 {K : ka_K β} {index : Nat} {v : Int64} (hd : decode cc pc = .ok (.ldc2_w index, 3)) (hq : Cond.constantLong own index v ∈ lw_all) {w : Int64} (hv : v = w) (hk : ka_S own cc nL nm FR LO cv (pc + 3) K) : ka_S own cc nL nm FR LO cv pc (ki_push (.long w) K) := by
  subst hv
  exact ks_step fun L S h b hb => ⟨_, K, L, _, hk, hb, fun D p l e R s m args below meth c Q cells slots cx H locs ls hP hL kk => lv_ldc2 cx.1 cx.2.1 cx.2.2.2.1 (cx.2.2.2.2.1 _ hq) hd (kk ls hL)⟩
theorem ks_null {K : ka_K β} (hd : decode cc pc = .ok (.aconst_null, 1)) (hk : ka_S own cc nL nm FR LO cv (pc + 1) K) : ka_S own cc nL nm FR LO cv pc (ki_push (.null) K) :=
  ks_step fun L S h b hb => ⟨_, K, L, _, hk, hb, fun D p l e R s m args below meth c Q cells slots cx H locs ls hP hL kk => lv_null cx.1 cx.2.1 hd (kk ls hL)⟩
def ki_iload (i : Nat) (K : ka_K β) : ka_K β := fun L S h => match ka_nth L i with
  | some (.int x) => K L (.int x :: S) h
  | _ => none
theorem ks_iload_n {K : ka_K β} {k : Fin 4} {i : Nat} (hd : decode cc pc = .ok (.iload_n k, 1)) (hi : (k : Nat) = i) (hk : ka_S own cc nL nm FR LO cv (pc + 1) K) : ka_S own cc nL nm FR LO cv pc (ki_iload i K) := by
  refine ks_step fun L S h b hb => ?_
  unfold ki_iload at hb
  split at hb
  · next hx =>
    exact ⟨_, K, L, _, hk, hb, fun D p l e R s m args below meth c Q cells slots cx H locs ls hP hL kk => lv_iload_n cx.1 cx.2.1 hd hi (hL.2.2 i _ hx) (kk ls hL)⟩
  · cases hb
theorem ks_iload {K : ka_K β} {i : Nat} (hd : decode cc pc = .ok (.iload i, 2)) (hk : ka_S own cc nL nm FR LO cv (pc + 2) K) : ka_S own cc nL nm FR LO cv pc (ki_iload i K) := by
  refine ks_step fun L S h b hb => ?_
  unfold ki_iload at hb
  split at hb
  · next hx =>
    exact ⟨_, K, L, _, hk, hb, fun D p l e R s m args below meth c Q cells slots cx H locs ls hP hL kk => lv_iload cx.1 cx.2.1 hd (hL.2.2 i _ hx) (kk ls hL)⟩
  · cases hb
def ki_lload (i : Nat) (K : ka_K β) : ka_K β := fun L S h => match ka_nth L i with
  | some (.long x) => K L (.long x :: S) h
  | _ => none
theorem ks_lload_n {K : ka_K β} {k : Fin 4} {i : Nat} (hd : decode cc pc = .ok (.lload_n k, 1)) (hi : (k : Nat) = i) (hk : ka_S own cc nL nm FR LO cv (pc + 1) K) : ka_S own cc nL nm FR LO cv pc (ki_lload i K) := by
  refine ks_step fun L S h b hb => ?_
  unfold ki_lload at hb
  split at hb
  · next hx =>
    exact ⟨_, K, L, _, hk, hb, fun D p l e R s m args below meth c Q cells slots cx H locs ls hP hL kk => lv_lload_n cx.1 cx.2.1 hd hi (hL.2.2 i _ hx) (kk ls hL)⟩
  · cases hb
theorem ks_lload {K : ka_K β} {i : Nat} (hd : decode cc pc = .ok (.lload i, 2)) (hk : ka_S own cc nL nm FR LO cv (pc + 2) K) : ka_S own cc nL nm FR LO cv pc (ki_lload i K) := by
  refine ks_step fun L S h b hb => ?_
  unfold ki_lload at hb
  split at hb
  · next hx =>
    exact ⟨_, K, L, _, hk, hb, fun D p l e R s m args below meth c Q cells slots cx H locs ls hP hL kk => lv_lload cx.1 cx.2.1 hd (hL.2.2 i _ hx) (kk ls hL)⟩
  · cases hb
def ki_aload (i : Nat) (K : ka_K β) : ka_K β := fun L S h => match ka_nth L i with
  | some (.ref x) => K L (.ref x :: S) h
  | some (.null) => K L (.null :: S) h
  | _ => none
theorem ks_aload_n {K : ka_K β} {k : Fin 4} {i : Nat} (hd : decode cc pc = .ok (.aload_n k, 1)) (hi : (k : Nat) = i) (hk : ka_S own cc nL nm FR LO cv (pc + 1) K) : ka_S own cc nL nm FR LO cv pc (ki_aload i K) := by
  refine ks_step fun L S h b hb => ?_
  unfold ki_aload at hb
  split at hb
  · next hx =>
    exact ⟨_, K, L, _, hk, hb, fun D p l e R s m args below meth c Q cells slots cx H locs ls hP hL kk => lv_aload_n cx.1 cx.2.1 hd hi (hL.2.2 i _ hx) (kk ls hL)⟩
  · next hx =>
    exact ⟨_, K, L, _, hk, hb, fun D p l e R s m args below meth c Q cells slots cx H locs ls hP hL kk => lv_aload_nN cx.1 cx.2.1 hd hi (hL.2.2 i _ hx) (kk ls hL)⟩
  · cases hb
theorem ks_aload {K : ka_K β} {i : Nat} (hd : decode cc pc = .ok (.aload i, 2)) (hk : ka_S own cc nL nm FR LO cv (pc + 2) K) : ka_S own cc nL nm FR LO cv pc (ki_aload i K) := by
  refine ks_step fun L S h b hb => ?_
  unfold ki_aload at hb
  split at hb
  · next hx =>
    exact ⟨_, K, L, _, hk, hb, fun D p l e R s m args below meth c Q cells slots cx H locs ls hP hL kk => lv_aload cx.1 cx.2.1 hd (hL.2.2 i _ hx) (kk ls hL)⟩
  · next hx =>
    exact ⟨_, K, L, _, hk, hb, fun D p l e R s m args below meth c Q cells slots cx H locs ls hP hL kk => lv_aloadN cx.1 cx.2.1 hd (hL.2.2 i _ hx) (kk ls hL)⟩
  · cases hb
def ki_istore (i : Nat) (K : ka_K β) : ka_K β := fun L S h => match S with
  | .int x :: S => if ka_c2 L i = true then none else K (ka_upd L i (.int x)) S h
  | _ => none
theorem ks_istore_n {K : ka_K β} {k : Fin 4} {i : Nat} (hd : decode cc pc = .ok (.istore_n k, 1)) (hi : (k : Nat) = i) (hn : i < nL) (hk : ka_S own cc nL nm FR LO cv (pc + 1) K) : ka_S own cc nL nm FR LO cv pc (ki_istore i K) := by
  refine ks_step fun L S h b hb => ?_
  unfold ki_istore at hb
  split at hb
  · split at hb
    · cases hb
    · next hc =>
      exact ⟨_, K, _, _, hk, hb, fun D p l e R s m args below meth c Q cells slots cx H locs ls hP hL kk => lv_istore_n cx.1 cx.2.1 hd hi hL.has hn rfl (fun ls' hl' => kk ls' (ka_lr.upd (by simpa using hc) rfl hl'))⟩
  · cases hb
theorem ks_istore {K : ka_K β} {i : Nat} (hd : decode cc pc = .ok (.istore i, 2)) (hn : i < nL) (hk : ka_S own cc nL nm FR LO cv (pc + 2) K) : ka_S own cc nL nm FR LO cv pc (ki_istore i K) := by
  refine ks_step fun L S h b hb => ?_
  unfold ki_istore at hb
  split at hb
  · split at hb
    · cases hb
    · next hc =>
      exact ⟨_, K, _, _, hk, hb, fun D p l e R s m args below meth c Q cells slots cx H locs ls hP hL kk => lv_istore cx.1 cx.2.1 hd hL.has hn rfl (fun ls' hl' => kk ls' (ka_lr.upd (by simpa using hc) rfl hl'))⟩
  · cases hb
def ki_astore (i : Nat) (K : ka_K β) : ka_K β := fun L S h => match S with
  | .ref x :: S => if ka_c2 L i = true then none else K (ka_upd L i (.ref x)) S h
  | .null :: S => if ka_c2 L i = true then none else K (ka_upd L i (.null)) S h
  | _ => none
theorem ks_astore_n {K : ka_K β} {k : Fin 4} {i : Nat} (hd : decode cc pc = .ok (.astore_n k, 1)) (hi : (k : Nat) = i) (hn : i < nL) (hk : ka_S own cc nL nm FR LO cv (pc + 1) K) : ka_S own cc nL nm FR LO cv pc (ki_astore i K) := by
  refine ks_step fun L S h b hb => ?_
  unfold ki_astore at hb
  split at hb
  · split at hb
    · cases hb
    · next hc =>
      exact ⟨_, K, _, _, hk, hb, fun D p l e R s m args below meth c Q cells slots cx H locs ls hP hL kk => lv_astore_n cx.1 cx.2.1 hd hi hL.has hn rfl (fun ls' hl' => kk ls' (ka_lr.upd (by simpa using hc) rfl hl'))⟩
  · split at hb
    · cases hb
    · next hc =>
      exact ⟨_, K, _, _, hk, hb, fun D p l e R s m args below meth c Q cells slots cx H locs ls hP hL kk => lv_astore_nN cx.1 cx.2.1 hd hi hL.has hn rfl (fun ls' hl' => kk ls' (ka_lr.upd (by simpa using hc) rfl hl'))⟩
  · cases hb
theorem ks_astore {K : ka_K β} {i : Nat} (hd : decode cc pc = .ok (.astore i, 2)) (hn : i < nL) (hk : ka_S own cc nL nm FR LO cv (pc + 2) K) : ka_S own cc nL nm FR LO cv pc (ki_astore i K) := by
  refine ks_step fun L S h b hb => ?_
  unfold ki_astore at hb
  split at hb
  · split at hb
    · cases hb
    · next hc =>
      exact ⟨_, K, _, _, hk, hb, fun D p l e R s m args below meth c Q cells slots cx H locs ls hP hL kk => lv_astore cx.1 cx.2.1 hd hL.has hn rfl (fun ls' hl' => kk ls' (ka_lr.upd (by simpa using hc) rfl hl'))⟩
  · split at hb
    · cases hb
    · next hc =>
      exact ⟨_, K, _, _, hk, hb, fun D p l e R s m args below meth c Q cells slots cx H locs ls hP hL kk => lv_astoreN cx.1 cx.2.1 hd hL.has hn rfl (fun ls' hl' => kk ls' (ka_lr.upd (by simpa using hc) rfl hl'))⟩
  · cases hb
def ki_iinc (i : Nat) (v : Int32) (K : ka_K β) : ka_K β := fun L S h => match ka_nth L i with
  | some (.int x) => if ka_c2 L i = true then none else K (ka_upd L i (.int (x + v))) S h
  | _ => none
theorem ks_iinc {K : ka_K β} {i : Nat} {n : Int} {v : Int32} (hd : decode cc pc = .ok (.iinc i n, 3)) (hv : Int32.ofInt n = v) (hn : i < nL) (hk : ka_S own cc nL nm FR LO cv (pc + 3) K) : ka_S own cc nL nm FR LO cv pc (ki_iinc i v K) := by
  refine ks_step fun L S h b hb => ?_
  unfold ki_iinc at hb
  split at hb
  · next x hx =>
    split at hb
    · cases hb
    · next hc =>
      obtain ⟨j, hj⟩ := List.getElem?_of_mem (ka_lvs_mem (L := L) (q := (i, .int x)) |>.mpr hx)
      exact ⟨_, K, _, _, hk, hb, fun D p l e R s m args below meth c Q cells slots cx H locs ls hP hL kk => lv_iinc cx.1 cx.2.1 hd hL.has hj (by rw [hv]) hn rfl (fun ls' hl' => kk ls' (ka_lr.upd (by simpa using hc) rfl hl'))⟩
  · cases hb
def ki_iadd (K : ka_K β) : ka_K β := fun L S h => match S with
  | .int y :: .int x :: S => K L (.int (x + y) :: S) h
  | _ => none
theorem ks_iadd {K : ka_K β} (hd : decode cc pc = .ok (.iadd, 1)) (hk : ka_S own cc nL nm FR LO cv (pc + 1) K) : ka_S own cc nL nm FR LO cv pc (ki_iadd K) := by
  refine ks_step fun L S h b hb => ?_
  unfold ki_iadd at hb
  split at hb
  · exact ⟨_, K, L, _, hk, hb, fun D p l e R s m args below meth c Q cells slots cx H locs ls hP hL kk => lv_iadd cx.1 cx.2.1 hd (kk ls hL)⟩
  · cases hb
def ki_isub (K : ka_K β) : ka_K β := fun L S h => match S with
  | .int y :: .int x :: S => K L (.int (x - y) :: S) h
  | _ => none
theorem ks_isub {K : ka_K β} (hd : decode cc pc = .ok (.isub, 1)) (hk : ka_S own cc nL nm FR LO cv (pc + 1) K) : ka_S own cc nL nm FR LO cv pc (ki_isub K) := by
  refine ks_step fun L S h b hb => ?_
  unfold ki_isub at hb
  split at hb
  · exact ⟨_, K, L, _, hk, hb, fun D p l e R s m args below meth c Q cells slots cx H locs ls hP hL kk => lv_isub cx.1 cx.2.1 hd (kk ls hL)⟩
  · cases hb
def ki_imul (K : ka_K β) : ka_K β := fun L S h => match S with
  | .int y :: .int x :: S => K L (.int (x * y) :: S) h
  | _ => none
theorem ks_imul {K : ka_K β} (hd : decode cc pc = .ok (.imul, 1)) (hk : ka_S own cc nL nm FR LO cv (pc + 1) K) : ka_S own cc nL nm FR LO cv pc (ki_imul K) := by
  refine ks_step fun L S h b hb => ?_
  unfold ki_imul at hb
  split at hb
  · exact ⟨_, K, L, _, hk, hb, fun D p l e R s m args below meth c Q cells slots cx H locs ls hP hL kk => lv_imul cx.1 cx.2.1 hd (kk ls hL)⟩
  · cases hb
def ki_iand (K : ka_K β) : ka_K β := fun L S h => match S with
  | .int y :: .int x :: S => K L (.int (x &&& y) :: S) h
  | _ => none
theorem ks_iand {K : ka_K β} (hd : decode cc pc = .ok (.iand, 1)) (hk : ka_S own cc nL nm FR LO cv (pc + 1) K) : ka_S own cc nL nm FR LO cv pc (ki_iand K) := by
  refine ks_step fun L S h b hb => ?_
  unfold ki_iand at hb
  split at hb
  · exact ⟨_, K, L, _, hk, hb, fun D p l e R s m args below meth c Q cells slots cx H locs ls hP hL kk => lv_iand cx.1 cx.2.1 hd (kk ls hL)⟩
  · cases hb
def ki_ior (K : ka_K β) : ka_K β := fun L S h => match S with
  | .int y :: .int x :: S => K L (.int (x ||| y) :: S) h
  | _ => none
theorem ks_ior {K : ka_K β} (hd : decode cc pc = .ok (.ior, 1)) (hk : ka_S own cc nL nm FR LO cv (pc + 1) K) : ka_S own cc nL nm FR LO cv pc (ki_ior K) := by
  refine ks_step fun L S h b hb => ?_
  unfold ki_ior at hb
  split at hb
  · exact ⟨_, K, L, _, hk, hb, fun D p l e R s m args below meth c Q cells slots cx H locs ls hP hL kk => lv_ior cx.1 cx.2.1 hd (kk ls hL)⟩
  · cases hb
def ki_ixor (K : ka_K β) : ka_K β := fun L S h => match S with
  | .int y :: .int x :: S => K L (.int (x ^^^ y) :: S) h
  | _ => none
theorem ks_ixor {K : ka_K β} (hd : decode cc pc = .ok (.ixor, 1)) (hk : ka_S own cc nL nm FR LO cv (pc + 1) K) : ka_S own cc nL nm FR LO cv pc (ki_ixor K) := by
  refine ks_step fun L S h b hb => ?_
  unfold ki_ixor at hb
  split at hb
  · exact ⟨_, K, L, _, hk, hb, fun D p l e R s m args below meth c Q cells slots cx H locs ls hP hL kk => lv_ixor cx.1 cx.2.1 hd (kk ls hL)⟩
  · cases hb
def ki_ishl (K : ka_K β) : ka_K β := fun L S h => match S with
  | .int y :: .int x :: S => K L (.int (x <<< (y &&& 31)) :: S) h
  | _ => none
theorem ks_ishl {K : ka_K β} (hd : decode cc pc = .ok (.ishl, 1)) (hk : ka_S own cc nL nm FR LO cv (pc + 1) K) : ka_S own cc nL nm FR LO cv pc (ki_ishl K) := by
  refine ks_step fun L S h b hb => ?_
  unfold ki_ishl at hb
  split at hb
  · exact ⟨_, K, L, _, hk, hb, fun D p l e R s m args below meth c Q cells slots cx H locs ls hP hL kk => lv_ishl cx.1 cx.2.1 hd (kk ls hL)⟩
  · cases hb
def ki_ishr (K : ka_K β) : ka_K β := fun L S h => match S with
  | .int y :: .int x :: S => K L (.int (x >>> (y &&& 31)) :: S) h
  | _ => none
theorem ks_ishr {K : ka_K β} (hd : decode cc pc = .ok (.ishr, 1)) (hk : ka_S own cc nL nm FR LO cv (pc + 1) K) : ka_S own cc nL nm FR LO cv pc (ki_ishr K) := by
  refine ks_step fun L S h b hb => ?_
  unfold ki_ishr at hb
  split at hb
  · exact ⟨_, K, L, _, hk, hb, fun D p l e R s m args below meth c Q cells slots cx H locs ls hP hL kk => lv_ishr cx.1 cx.2.1 hd (kk ls hL)⟩
  · cases hb
def ki_idiv (K : ka_K β) : ka_K β := fun L S h => match S with
  | .int y :: .int x :: S => if y = iI 0 then none else K L (.int (x / y) :: S) h
  | _ => none
theorem ks_idiv {K : ka_K β} (hd : decode cc pc = .ok (.idiv, 1)) (hk : ka_S own cc nL nm FR LO cv (pc + 1) K) : ka_S own cc nL nm FR LO cv pc (ki_idiv K) := by
  refine ks_step fun L S h b hb => ?_
  unfold ki_idiv at hb
  rw [iI_0] at hb
  split at hb
  · split at hb
    · cases hb
    · next hy =>
      exact ⟨_, K, L, _, hk, hb, fun D p l e R s m args below meth c Q cells slots cx H locs ls hP hL kk => lv_idiv cx.1 cx.2.1 hd hy (kk ls hL)⟩
  · cases hb
def ki_irem (K : ka_K β) : ka_K β := fun L S h => match S with
  | .int y :: .int x :: S => if y = iI 0 then none else K L (.int (x - x / y * y) :: S) h
  | _ => none
theorem ks_irem {K : ka_K β} (hd : decode cc pc = .ok (.irem, 1)) (hk : ka_S own cc nL nm FR LO cv (pc + 1) K) : ka_S own cc nL nm FR LO cv pc (ki_irem K) := by
  refine ks_step fun L S h b hb => ?_
  unfold ki_irem at hb
  rw [iI_0] at hb
  split at hb
  · split at hb
    · cases hb
    · next hy =>
      exact ⟨_, K, L, _, hk, hb, fun D p l e R s m args below meth c Q cells slots cx H locs ls hP hL kk => lv_irem cx.1 cx.2.1 hd hy (kk ls hL)⟩
  · cases hb
def ki_ladd (K : ka_K β) : ka_K β := fun L S h => match S with
  | .long y :: .long x :: S => K L (.long (x + y) :: S) h
  | _ => none
theorem ks_ladd {K : ka_K β} (hd : decode cc pc = .ok (.ladd, 1)) (hk : ka_S own cc nL nm FR LO cv (pc + 1) K) : ka_S own cc nL nm FR LO cv pc (ki_ladd K) := by
  refine ks_step fun L S h b hb => ?_
  unfold ki_ladd at hb
  split at hb
  · exact ⟨_, K, L, _, hk, hb, fun D p l e R s m args below meth c Q cells slots cx H locs ls hP hL kk => lv_ladd cx.1 cx.2.1 hd (kk ls hL)⟩
  · cases hb
def ki_lsub (K : ka_K β) : ka_K β := fun L S h => match S with
  | .long y :: .long x :: S => K L (.long (x - y) :: S) h
  | _ => none
theorem ks_lsub {K : ka_K β} (hd : decode cc pc = .ok (.lsub, 1)) (hk : ka_S own cc nL nm FR LO cv (pc + 1) K) : ka_S own cc nL nm FR LO cv pc (ki_lsub K) := by
  refine ks_step fun L S h b hb => ?_
  unfold ki_lsub at hb
  split at hb
  · exact ⟨_, K, L, _, hk, hb, fun D p l e R s m args below meth c Q cells slots cx H locs ls hP hL kk => lv_lsub cx.1 cx.2.1 hd (kk ls hL)⟩
  · cases hb
def ki_lmul (K : ka_K β) : ka_K β := fun L S h => match S with
  | .long y :: .long x :: S => K L (.long (x * y) :: S) h
  | _ => none
theorem ks_lmul {K : ka_K β} (hd : decode cc pc = .ok (.lmul, 1)) (hk : ka_S own cc nL nm FR LO cv (pc + 1) K) : ka_S own cc nL nm FR LO cv pc (ki_lmul K) := by
  refine ks_step fun L S h b hb => ?_
  unfold ki_lmul at hb
  split at hb
  · exact ⟨_, K, L, _, hk, hb, fun D p l e R s m args below meth c Q cells slots cx H locs ls hP hL kk => lv_lmul cx.1 cx.2.1 hd (kk ls hL)⟩
  · cases hb
def ki_lrem (K : ka_K β) : ka_K β := fun L S h => match S with
  | .long y :: .long x :: S => if y = 0 then none else K L (.long (x - x / y * y) :: S) h
  | _ => none
theorem ks_lrem {K : ka_K β} (hd : decode cc pc = .ok (.lrem, 1)) (hk : ka_S own cc nL nm FR LO cv (pc + 1) K) : ka_S own cc nL nm FR LO cv pc (ki_lrem K) := by
  refine ks_step fun L S h b hb => ?_
  unfold ki_lrem at hb
  split at hb
  · split at hb
    · cases hb
    · next hy =>
      exact ⟨_, K, L, _, hk, hb, fun D p l e R s m args below meth c Q cells slots cx H locs ls hP hL kk => lv_lrem cx.1 cx.2.1 hd hy (kk ls hL)⟩
  · cases hb
def ki_lcmp (K : ka_K β) : ka_K β := fun L S h => match S with
  | .long y :: .long x :: S => K L (.int (lg_cmp x y) :: S) h
  | _ => none
theorem ks_lcmp {K : ka_K β} (hd : decode cc pc = .ok (.lcmp, 1)) (hk : ka_S own cc nL nm FR LO cv (pc + 1) K) : ka_S own cc nL nm FR LO cv pc (ki_lcmp K) := by
  refine ks_step fun L S h b hb => ?_
  unfold ki_lcmp at hb
  split at hb
  · exact ⟨_, K, L, _, hk, hb, fun D p l e R s m args below meth c Q cells slots cx H locs ls hP hL kk => W.lcmp cx.1 cx.2.1 hd (kk ls hL)⟩
  · cases hb
def ki_ineg (K : ka_K β) : ka_K β := fun L S h => match S with
  | .int x :: S => K L (.int (-x) :: S) h
  | _ => none
theorem ks_ineg {K : ka_K β} (hd : decode cc pc = .ok (.ineg, 1)) (hk : ka_S own cc nL nm FR LO cv (pc + 1) K) : ka_S own cc nL nm FR LO cv pc (ki_ineg K) := by
  refine ks_step fun L S h b hb => ?_
  unfold ki_ineg at hb
  split at hb
  · exact ⟨_, K, L, _, hk, hb, fun D p l e R s m args below meth c Q cells slots cx H locs ls hP hL kk => lv_ineg cx.1 cx.2.1 hd (kk ls hL)⟩
  · cases hb
def ki_i2l (K : ka_K β) : ka_K β := fun L S h => match S with
  | .int x :: S => K L (.long x.toInt64 :: S) h
  | _ => none
theorem ks_i2l {K : ka_K β} (hd : decode cc pc = .ok (.i2l, 1)) (hk : ka_S own cc nL nm FR LO cv (pc + 1) K) : ka_S own cc nL nm FR LO cv pc (ki_i2l K) := by
  refine ks_step fun L S h b hb => ?_
  unfold ki_i2l at hb
  split at hb
  · exact ⟨_, K, L, _, hk, hb, fun D p l e R s m args below meth c Q cells slots cx H locs ls hP hL kk => lv_i2l cx.1 cx.2.1 hd rfl (kk ls hL)⟩
  · cases hb
def ki_l2i (K : ka_K β) : ka_K β := fun L S h => match S with
  | .long x :: S => K L (.int x.toInt32 :: S) h
  | _ => none
theorem ks_l2i {K : ka_K β} (hd : decode cc pc = .ok (.l2i, 1)) (hk : ka_S own cc nL nm FR LO cv (pc + 1) K) : ka_S own cc nL nm FR LO cv pc (ki_l2i K) := by
  refine ks_step fun L S h b hb => ?_
  unfold ki_l2i at hb
  split at hb
  · exact ⟨_, K, L, _, hk, hb, fun D p l e R s m args below meth c Q cells slots cx H locs ls hP hL kk => lv_l2i cx.1 cx.2.1 hd rfl (kk ls hL)⟩
  · cases hb
def ki_i2b (K : ka_K β) : ka_K β := fun L S h => match S with
  | .int x :: S => K L (.int x.toInt8.toInt32 :: S) h
  | _ => none
theorem ks_i2b {K : ka_K β} (hd : decode cc pc = .ok (.i2b, 1)) (hk : ka_S own cc nL nm FR LO cv (pc + 1) K) : ka_S own cc nL nm FR LO cv pc (ki_i2b K) := by
  refine ks_step fun L S h b hb => ?_
  unfold ki_i2b at hb
  split at hb
  · exact ⟨_, K, L, _, hk, hb, fun D p l e R s m args below meth c Q cells slots cx H locs ls hP hL kk => lv_i2b cx.1 cx.2.1 hd rfl (kk ls hL)⟩
  · cases hb
/-- a value of one word -/
def ka_w1 (v : Value) : Bool := match v with
  | .int _ => true
  | .ref _ => true
  | .null => true
  | _ => false
theorem ka_w1_cat {v : Value} (h : ka_w1 v = true) : v.category = 1 := by cases v <;> simp_all [ka_w1, Value.category]
def ki_dup (K : ka_K β) : ka_K β := fun L S h => match S with
  | v :: S => if ka_w1 v = true then K L (v :: v :: S) h else none
  | _ => none
theorem ks_dup {K : ka_K β} (hd : decode cc pc = .ok (.dup, 1)) (hk : ka_S own cc nL nm FR LO cv (pc + 1) K) : ka_S own cc nL nm FR LO cv pc (ki_dup K) := by
  refine ks_step fun L S h b hb => ?_
  unfold ki_dup at hb
  split at hb
  · split at hb
    · next hv =>
      exact ⟨_, K, L, _, hk, hb, fun D p l e R s m args below meth c Q cells slots cx H locs ls hP hL kk => lv_dup cx.1 cx.2.1 hd (ka_w1_cat hv) (kk ls hL)⟩
    · cases hb
  · cases hb
def ki_pop (K : ka_K β) : ka_K β := fun L S h => match S with
  | v :: S => if ka_w1 v = true then K L S h else none
  | _ => none
theorem ks_pop {K : ka_K β} (hd : decode cc pc = .ok (.pop, 1)) (hk : ka_S own cc nL nm FR LO cv (pc + 1) K) : ka_S own cc nL nm FR LO cv pc (ki_pop K) := by
  refine ks_step fun L S h b hb => ?_
  unfold ki_pop at hb
  split at hb
  · split at hb
    · next hv =>
      exact ⟨_, K, L, _, hk, hb, fun D p l e R s m args below meth c Q cells slots cx H locs ls hP hL kk => lv_pop cx.1 cx.2.1 hd (ka_w1_cat hv) (kk ls hL)⟩
    · cases hb
  · cases hb
def ki_dup2 (K : ka_K β) : ka_K β := fun L S h => match S with
  | v :: w :: S => if (ka_w1 v && ka_w1 w) = true then K L (v :: w :: v :: w :: S) h else none
  | _ => none
theorem ks_dup2 {K : ka_K β} (hd : decode cc pc = .ok (.dup2, 1)) (hk : ka_S own cc nL nm FR LO cv (pc + 1) K) : ka_S own cc nL nm FR LO cv pc (ki_dup2 K) := by
  refine ks_step fun L S h b hb => ?_
  unfold ki_dup2 at hb
  split at hb
  · split at hb
    · next hv =>
      have hv := Bool.and_eq_true_iff.mp hv
      exact ⟨_, K, L, _, hk, hb, fun D p l e R s m args below meth c Q cells slots cx H locs ls hP hL kk => lv_dup2_11 cx.1 cx.2.1 hd (ka_w1_cat hv.1) (ka_w1_cat hv.2) (kk ls hL)⟩
    · cases hb
  · cases hb
def ki_dupx1 (K : ka_K β) : ka_K β := fun L S h => match S with
  | v :: w :: S => if (ka_w1 v && ka_w1 w) = true then K L (v :: w :: v :: S) h else none
  | _ => none
theorem ks_dupx1 {K : ka_K β} (hd : decode cc pc = .ok (.dup_x1, 1)) (hk : ka_S own cc nL nm FR LO cv (pc + 1) K) : ka_S own cc nL nm FR LO cv pc (ki_dupx1 K) := by
  refine ks_step fun L S h b hb => ?_
  unfold ki_dupx1 at hb
  split at hb
  · split at hb
    · next hv =>
      have hv := Bool.and_eq_true_iff.mp hv
      exact ⟨_, K, L, _, hk, hb, fun D p l e R s m args below meth c Q cells slots cx H locs ls hP hL kk => lv_dup_x1 cx.1 cx.2.1 hd (ka_w1_cat hv.1) (ka_w1_cat hv.2) (kk ls hL)⟩
    · cases hb
  · cases hb
def ki_icmp_eq (K1 K2 : ka_K β) : ka_K β := fun L S h => match S with
  | .int y :: .int x :: S => if x = y then K1 L S h else K2 L S h
  | _ => none
theorem ks_icmp_eq {K1 K2 : ka_K β} {off : Int} (tgt : Nat) (hd : decode cc pc = .ok (.if_icmp .eq off, 3)) (ht : (pc : Int) + off = (tgt : Int)) (h1 : ka_S own cc nL nm FR LO cv tgt K1) (h2 : ka_S own cc nL nm FR LO cv (pc + 3) K2) : ka_S own cc nL nm FR LO cv pc (ki_icmp_eq K1 K2) := by
  refine ks_step fun L S h b hb => ?_
  unfold ki_icmp_eq at hb
  split at hb
  · split at hb
    · next hc =>
      exact ⟨_, K1, L, _, h1, hb, fun D p l e R s m args below meth c Q cells slots cx H locs ls hP hL kk => lv_icmp_eq cx.1 cx.2.1 hd ht (fun _ => kk ls hL) (fun q => absurd hc q)⟩
    · next hc =>
      exact ⟨_, K2, L, _, h2, hb, fun D p l e R s m args below meth c Q cells slots cx H locs ls hP hL kk => lv_icmp_eq cx.1 cx.2.1 hd ht (fun q => absurd q hc) (fun _ => kk ls hL)⟩
  · cases hb
def ki_icmp_ne (K1 K2 : ka_K β) : ka_K β := fun L S h => match S with
  | .int y :: .int x :: S => if ¬ x = y then K1 L S h else K2 L S h
  | _ => none
theorem ks_icmp_ne {K1 K2 : ka_K β} {off : Int} (tgt : Nat) (hd : decode cc pc = .ok (.if_icmp .ne off, 3)) (ht : (pc : Int) + off = (tgt : Int)) (h1 : ka_S own cc nL nm FR LO cv tgt K1) (h2 : ka_S own cc nL nm FR LO cv (pc + 3) K2) : ka_S own cc nL nm FR LO cv pc (ki_icmp_ne K1 K2) := by
  refine ks_step fun L S h b hb => ?_
  unfold ki_icmp_ne at hb
  split at hb
  · split at hb
    · next hc =>
      exact ⟨_, K1, L, _, h1, hb, fun D p l e R s m args below meth c Q cells slots cx H locs ls hP hL kk => lv_icmp_ne cx.1 cx.2.1 hd ht (fun _ => kk ls hL) (fun q => absurd q hc)⟩
    · next hc =>
      exact ⟨_, K2, L, _, h2, hb, fun D p l e R s m args below meth c Q cells slots cx H locs ls hP hL kk => lv_icmp_ne cx.1 cx.2.1 hd ht (fun q => absurd q hc) (fun _ => kk ls hL)⟩
  · cases hb
def ki_icmp_lt (K1 K2 : ka_K β) : ka_K β := fun L S h => match S with
  | .int y :: .int x :: S => if x < y then K1 L S h else K2 L S h
  | _ => none
theorem ks_icmp_lt {K1 K2 : ka_K β} {off : Int} (tgt : Nat) (hd : decode cc pc = .ok (.if_icmp .lt off, 3)) (ht : (pc : Int) + off = (tgt : Int)) (h1 : ka_S own cc nL nm FR LO cv tgt K1) (h2 : ka_S own cc nL nm FR LO cv (pc + 3) K2) : ka_S own cc nL nm FR LO cv pc (ki_icmp_lt K1 K2) := by
  refine ks_step fun L S h b hb => ?_
  unfold ki_icmp_lt at hb
  split at hb
  · split at hb
    · next hc =>
      exact ⟨_, K1, L, _, h1, hb, fun D p l e R s m args below meth c Q cells slots cx H locs ls hP hL kk => lv_icmp_lt cx.1 cx.2.1 hd ht (fun _ => kk ls hL) (fun q => absurd hc q)⟩
    · next hc =>
      exact ⟨_, K2, L, _, h2, hb, fun D p l e R s m args below meth c Q cells slots cx H locs ls hP hL kk => lv_icmp_lt cx.1 cx.2.1 hd ht (fun q => absurd q hc) (fun _ => kk ls hL)⟩
  · cases hb
def ki_icmp_ge (K1 K2 : ka_K β) : ka_K β := fun L S h => match S with
  | .int y :: .int x :: S => if y ≤ x then K1 L S h else K2 L S h
  | _ => none
theorem ks_icmp_ge {K1 K2 : ka_K β} {off : Int} (tgt : Nat) (hd : decode cc pc = .ok (.if_icmp .ge off, 3)) (ht : (pc : Int) + off = (tgt : Int)) (h1 : ka_S own cc nL nm FR LO cv tgt K1) (h2 : ka_S own cc nL nm FR LO cv (pc + 3) K2) : ka_S own cc nL nm FR LO cv pc (ki_icmp_ge K1 K2) := by
  refine ks_step fun L S h b hb => ?_
  unfold ki_icmp_ge at hb
  split at hb
  · split at hb
    · next hc =>
      exact ⟨_, K1, L, _, h1, hb, fun D p l e R s m args below meth c Q cells slots cx H locs ls hP hL kk => lv_icmp_ge cx.1 cx.2.1 hd ht (fun _ => kk ls hL) (fun q => absurd hc q)⟩
    · next hc =>
      exact ⟨_, K2, L, _, h2, hb, fun D p l e R s m args below meth c Q cells slots cx H locs ls hP hL kk => lv_icmp_ge cx.1 cx.2.1 hd ht (fun q => absurd q hc) (fun _ => kk ls hL)⟩
  · cases hb
def ki_icmp_gt (K1 K2 : ka_K β) : ka_K β := fun L S h => match S with
  | .int y :: .int x :: S => if y < x then K1 L S h else K2 L S h
  | _ => none
theorem ks_icmp_gt {K1 K2 : ka_K β} {off : Int} (tgt : Nat) (hd : decode cc pc = .ok (.if_icmp .gt off, 3)) (ht : (pc : Int) + off = (tgt : Int)) (h1 : ka_S own cc nL nm FR LO cv tgt K1) (h2 : ka_S own cc nL nm FR LO cv (pc + 3) K2) : ka_S own cc nL nm FR LO cv pc (ki_icmp_gt K1 K2) := by
  refine ks_step fun L S h b hb => ?_
  unfold ki_icmp_gt at hb
  split at hb
  · split at hb
    · next hc =>
      exact ⟨_, K1, L, _, h1, hb, fun D p l e R s m args below meth c Q cells slots cx H locs ls hP hL kk => lv_icmp_gt cx.1 cx.2.1 hd ht (fun _ => kk ls hL) (fun q => absurd hc q)⟩
    · next hc =>
      exact ⟨_, K2, L, _, h2, hb, fun D p l e R s m args below meth c Q cells slots cx H locs ls hP hL kk => lv_icmp_gt cx.1 cx.2.1 hd ht (fun q => absurd q hc) (fun _ => kk ls hL)⟩
  · cases hb
def ki_icmp_le (K1 K2 : ka_K β) : ka_K β := fun L S h => match S with
  | .int y :: .int x :: S => if x ≤ y then K1 L S h else K2 L S h
  | _ => none
theorem ks_icmp_le {K1 K2 : ka_K β} {off : Int} (tgt : Nat) (hd : decode cc pc = .ok (.if_icmp .le off, 3)) (ht : (pc : Int) + off = (tgt : Int)) (h1 : ka_S own cc nL nm FR LO cv tgt K1) (h2 : ka_S own cc nL nm FR LO cv (pc + 3) K2) : ka_S own cc nL nm FR LO cv pc (ki_icmp_le K1 K2) := by
  refine ks_step fun L S h b hb => ?_
  unfold ki_icmp_le at hb
  split at hb
  · split at hb
    · next hc =>
      exact ⟨_, K1, L, _, h1, hb, fun D p l e R s m args below meth c Q cells slots cx H locs ls hP hL kk => lv_icmp_le cx.1 cx.2.1 hd ht (fun _ => kk ls hL) (fun q => absurd hc q)⟩
    · next hc =>
      exact ⟨_, K2, L, _, h2, hb, fun D p l e R s m args below meth c Q cells slots cx H locs ls hP hL kk => lv_icmp_le cx.1 cx.2.1 hd ht (fun q => absurd q hc) (fun _ => kk ls hL)⟩
  · cases hb
def ki_if_eq (K1 K2 : ka_K β) : ka_K β := fun L S h => match S with
  | .int x :: S => if x = iI 0 then K1 L S h else K2 L S h
  | _ => none
theorem ks_if_eq {K1 K2 : ka_K β} {off : Int} (tgt : Nat) (hd : decode cc pc = .ok (.ifCond .eq off, 3)) (ht : (pc : Int) + off = (tgt : Int)) (h1 : ka_S own cc nL nm FR LO cv tgt K1) (h2 : ka_S own cc nL nm FR LO cv (pc + 3) K2) : ka_S own cc nL nm FR LO cv pc (ki_if_eq K1 K2) := by
  refine ks_step fun L S h b hb => ?_
  unfold ki_if_eq at hb
  rw [iI_0] at hb
  split at hb
  · split at hb
    · next hc =>
      exact ⟨_, K1, L, _, h1, hb, fun D p l e R s m args below meth c Q cells slots cx H locs ls hP hL kk => lv_if_eq cx.1 cx.2.1 hd ht (fun _ => kk ls hL) (fun q => absurd hc q)⟩
    · next hc =>
      exact ⟨_, K2, L, _, h2, hb, fun D p l e R s m args below meth c Q cells slots cx H locs ls hP hL kk => lv_if_eq cx.1 cx.2.1 hd ht (fun q => absurd q hc) (fun _ => kk ls hL)⟩
  · cases hb
def ki_if_ne (K1 K2 : ka_K β) : ka_K β := fun L S h => match S with
  | .int x :: S => if ¬ x = iI 0 then K1 L S h else K2 L S h
  | _ => none
theorem ks_if_ne {K1 K2 : ka_K β} {off : Int} (tgt : Nat) (hd : decode cc pc = .ok (.ifCond .ne off, 3)) (ht : (pc : Int) + off = (tgt : Int)) (h1 : ka_S own cc nL nm FR LO cv tgt K1) (h2 : ka_S own cc nL nm FR LO cv (pc + 3) K2) : ka_S own cc nL nm FR LO cv pc (ki_if_ne K1 K2) := by
  refine ks_step fun L S h b hb => ?_
  unfold ki_if_ne at hb
  rw [iI_0] at hb
  split at hb
  · split at hb
    · next hc =>
      exact ⟨_, K1, L, _, h1, hb, fun D p l e R s m args below meth c Q cells slots cx H locs ls hP hL kk => lv_if_ne cx.1 cx.2.1 hd ht (fun _ => kk ls hL) (fun q => absurd q hc)⟩
    · next hc =>
      exact ⟨_, K2, L, _, h2, hb, fun D p l e R s m args below meth c Q cells slots cx H locs ls hP hL kk => lv_if_ne cx.1 cx.2.1 hd ht (fun q => absurd q hc) (fun _ => kk ls hL)⟩
  · cases hb
def ki_if_lt (K1 K2 : ka_K β) : ka_K β := fun L S h => match S with
  | .int x :: S => if x < iI 0 then K1 L S h else K2 L S h
  | _ => none
theorem ks_if_lt {K1 K2 : ka_K β} {off : Int} (tgt : Nat) (hd : decode cc pc = .ok (.ifCond .lt off, 3)) (ht : (pc : Int) + off = (tgt : Int)) (h1 : ka_S own cc nL nm FR LO cv tgt K1) (h2 : ka_S own cc nL nm FR LO cv (pc + 3) K2) : ka_S own cc nL nm FR LO cv pc (ki_if_lt K1 K2) := by
  refine ks_step fun L S h b hb => ?_
  unfold ki_if_lt at hb
  rw [iI_0] at hb
  split at hb
  · split at hb
    · next hc =>
      exact ⟨_, K1, L, _, h1, hb, fun D p l e R s m args below meth c Q cells slots cx H locs ls hP hL kk => lv_if_lt cx.1 cx.2.1 hd ht (fun _ => kk ls hL) (fun q => absurd hc q)⟩
    · next hc =>
      exact ⟨_, K2, L, _, h2, hb, fun D p l e R s m args below meth c Q cells slots cx H locs ls hP hL kk => lv_if_lt cx.1 cx.2.1 hd ht (fun q => absurd q hc) (fun _ => kk ls hL)⟩
  · cases hb
def ki_if_ge (K1 K2 : ka_K β) : ka_K β := fun L S h => match S with
  | .int x :: S => if iI 0 ≤ x then K1 L S h else K2 L S h
  | _ => none
theorem ks_if_ge {K1 K2 : ka_K β} {off : Int} (tgt : Nat) (hd : decode cc pc = .ok (.ifCond .ge off, 3)) (ht : (pc : Int) + off = (tgt : Int)) (h1 : ka_S own cc nL nm FR LO cv tgt K1) (h2 : ka_S own cc nL nm FR LO cv (pc + 3) K2) : ka_S own cc nL nm FR LO cv pc (ki_if_ge K1 K2) := by
  refine ks_step fun L S h b hb => ?_
  unfold ki_if_ge at hb
  rw [iI_0] at hb
  split at hb
  · split at hb
    · next hc =>
      exact ⟨_, K1, L, _, h1, hb, fun D p l e R s m args below meth c Q cells slots cx H locs ls hP hL kk => lv_if_ge cx.1 cx.2.1 hd ht (fun _ => kk ls hL) (fun q => absurd hc q)⟩
    · next hc =>
      exact ⟨_, K2, L, _, h2, hb, fun D p l e R s m args below meth c Q cells slots cx H locs ls hP hL kk => lv_if_ge cx.1 cx.2.1 hd ht (fun q => absurd q hc) (fun _ => kk ls hL)⟩
  · cases hb
def ki_if_gt (K1 K2 : ka_K β) : ka_K β := fun L S h => match S with
  | .int x :: S => if iI 0 < x then K1 L S h else K2 L S h
  | _ => none
theorem ks_if_gt {K1 K2 : ka_K β} {off : Int} (tgt : Nat) (hd : decode cc pc = .ok (.ifCond .gt off, 3)) (ht : (pc : Int) + off = (tgt : Int)) (h1 : ka_S own cc nL nm FR LO cv tgt K1) (h2 : ka_S own cc nL nm FR LO cv (pc + 3) K2) : ka_S own cc nL nm FR LO cv pc (ki_if_gt K1 K2) := by
  refine ks_step fun L S h b hb => ?_
  unfold ki_if_gt at hb
  rw [iI_0] at hb
  split at hb
  · split at hb
    · next hc =>
      exact ⟨_, K1, L, _, h1, hb, fun D p l e R s m args below meth c Q cells slots cx H locs ls hP hL kk => lv_if_gt cx.1 cx.2.1 hd ht (fun _ => kk ls hL) (fun q => absurd hc q)⟩
    · next hc =>
      exact ⟨_, K2, L, _, h2, hb, fun D p l e R s m args below meth c Q cells slots cx H locs ls hP hL kk => lv_if_gt cx.1 cx.2.1 hd ht (fun q => absurd q hc) (fun _ => kk ls hL)⟩
  · cases hb
def ki_if_le (K1 K2 : ka_K β) : ka_K β := fun L S h => match S with
  | .int x :: S => if x ≤ iI 0 then K1 L S h else K2 L S h
  | _ => none
theorem ks_if_le {K1 K2 : ka_K β} {off : Int} (tgt : Nat) (hd : decode cc pc = .ok (.ifCond .le off, 3)) (ht : (pc : Int) + off = (tgt : Int)) (h1 : ka_S own cc nL nm FR LO cv tgt K1) (h2 : ka_S own cc nL nm FR LO cv (pc + 3) K2) : ka_S own cc nL nm FR LO cv pc (ki_if_le K1 K2) := by
  refine ks_step fun L S h b hb => ?_
  unfold ki_if_le at hb
  rw [iI_0] at hb
  split at hb
  · split at hb
    · next hc =>
      exact ⟨_, K1, L, _, h1, hb, fun D p l e R s m args below meth c Q cells slots cx H locs ls hP hL kk => lv_if_le cx.1 cx.2.1 hd ht (fun _ => kk ls hL) (fun q => absurd hc q)⟩
    · next hc =>
      exact ⟨_, K2, L, _, h2, hb, fun D p l e R s m args below meth c Q cells slots cx H locs ls hP hL kk => lv_if_le cx.1 cx.2.1 hd ht (fun q => absurd q hc) (fun _ => kk ls hL)⟩
  · cases hb
def ki_ifnonnull (K1 K2 : ka_K β) : ka_K β := fun L S h => match S with
  | .ref _ :: S => K1 L S h
  | .null :: S => K2 L S h
  | _ => none
theorem ks_ifnonnull {K1 K2 : ka_K β} {off : Int} (tgt : Nat) (hd : decode cc pc = .ok (.ifnonnull off, 3)) (ht : (pc : Int) + off = (tgt : Int)) (h1 : ka_S own cc nL nm FR LO cv tgt K1) (h2 : ka_S own cc nL nm FR LO cv (pc + 3) K2) : ka_S own cc nL nm FR LO cv pc (ki_ifnonnull K1 K2) := by
  refine ks_step fun L S h b hb => ?_
  unfold ki_ifnonnull at hb
  split at hb
  · exact ⟨_, K1, L, _, h1, hb, fun D p l e R s m args below meth c Q cells slots cx H locs ls hP hL kk => lv_ifnonnull cx.1 cx.2.1 hd ht (kk ls hL)⟩
  · exact ⟨_, K2, L, _, h2, hb, fun D p l e R s m args below meth c Q cells slots cx H locs ls hP hL kk => lv_ifnonnullN cx.1 cx.2.1 hd (kk ls hL)⟩
  · cases hb
def ki_acmp_eq (K1 K2 : ka_K β) : ka_K β := fun L S h => match S with
  | .ref y :: .ref x :: S => if x = y then K1 L S h else K2 L S h
  | _ => none
theorem ks_acmp_eq {K1 K2 : ka_K β} {off : Int} (tgt : Nat) (hd : decode cc pc = .ok (.if_acmp .eq off, 3)) (ht : (pc : Int) + off = (tgt : Int)) (h1 : ka_S own cc nL nm FR LO cv tgt K1) (h2 : ka_S own cc nL nm FR LO cv (pc + 3) K2) : ka_S own cc nL nm FR LO cv pc (ki_acmp_eq K1 K2) := by
  refine ks_step fun L S h b hb => ?_
  unfold ki_acmp_eq at hb
  split at hb
  · split at hb
    · next x y S hc =>
      exact ⟨_, K1, L, _, h1, hb, fun D p l e R s m args below meth c Q cells slots cx H locs ls hP hL kk => lv_acmp_eq (rx := some _) (ry := some _) cx.1 cx.2.1 hd ht (fun _ => kk ls hL) (fun q => absurd (by rw [hc]) q)⟩
    · next x y S hc =>
      exact ⟨_, K2, L, _, h2, hb, fun D p l e R s m args below meth c Q cells slots cx H locs ls hP hL kk => lv_acmp_eq (rx := some _) (ry := some _) cx.1 cx.2.1 hd ht (fun q => absurd (Option.some.inj q) hc) (fun _ => kk ls hL)⟩
  · cases hb
def ki_acmp_ne (K1 K2 : ka_K β) : ka_K β := fun L S h => match S with
  | .ref y :: .ref x :: S => if ¬ x = y then K1 L S h else K2 L S h
  | _ => none
theorem ks_acmp_ne {K1 K2 : ka_K β} {off : Int} (tgt : Nat) (hd : decode cc pc = .ok (.if_acmp .ne off, 3)) (ht : (pc : Int) + off = (tgt : Int)) (h1 : ka_S own cc nL nm FR LO cv tgt K1) (h2 : ka_S own cc nL nm FR LO cv (pc + 3) K2) : ka_S own cc nL nm FR LO cv pc (ki_acmp_ne K1 K2) := by
  refine ks_step fun L S h b hb => ?_
  unfold ki_acmp_ne at hb
  split at hb
  · split at hb
    · next x y S hc =>
      exact ⟨_, K1, L, _, h1, hb, fun D p l e R s m args below meth c Q cells slots cx H locs ls hP hL kk => lv_acmp_ne (rx := some _) (ry := some _) cx.1 cx.2.1 hd ht (fun _ => kk ls hL) (fun q => absurd (Option.some.inj q) hc)⟩
    · next x y S hc =>
      exact ⟨_, K2, L, _, h2, hb, fun D p l e R s m args below meth c Q cells slots cx H locs ls hP hL kk => lv_acmp_ne (rx := some _) (ry := some _) cx.1 cx.2.1 hd ht (fun q => absurd (by rw [Decidable.not_not.mp hc]) q) (fun _ => kk ls hL)⟩
  · cases hb
/-- a jump costs nothing here -/
theorem ks_goto {K : ka_K β} {off : Int} (tgt : Nat) (hd : decode cc pc = .ok (.goto off, 3)) (ht : (pc : Int) + off = (tgt : Int)) (h1 : ka_S own cc nL nm FR LO cv tgt K) : ka_S own cc nL nm FR LO cv pc K :=
  ks_step fun L S h b hb => ⟨tgt, K, L, S, h1, hb, fun D p l e R s m args below meth c Q cells slots cx H locs ls hP hL kk => lv_goto cx.1 cx.2.1 hd ht (kk ls hL)⟩
/-- locals that are dead are forgotten -/
def ki_trim (n : Nat) (K : ka_K β) : ka_K β := fun L S h => K (L.take n) S h
theorem ks_trim {K : ka_K β} (n : Nat) (h1 : ka_S own cc nL nm FR LO cv pc K) : ka_S own cc nL nm FR LO cv pc (ki_trim n K) :=
  ks_step fun L S h b hb => ⟨pc, K, L.take n, S, h1, hb, fun D p l e R s m args below meth c Q cells slots cx H locs ls hP hL kk => kk ls hL.take⟩
/-- a loop -/
def ki_fix (B : ka_K β → ka_K β) : Nat → ka_K β
  | 0 => fun _ _ _ => none
  | n + 1 => B (ki_fix B n)
theorem ks_fix {B : ka_K β → ka_K β} (hB : ∀ K, ka_S own cc nL nm FR LO cv pc K → ka_S own cc nL nm FR LO cv pc (B K)) (n : Nat) : ka_S own cc nL nm FR LO cv pc (ki_fix B n) := by
  induction n with
  | zero => intro L S h b hb; cases hb
  | succ n ih => exact hB _ ih
/-- a table of jumps: the cases in turn, then the rest -/
def ki_tab (lo : Int) (Ks : List (ka_K β)) (Kd : ka_K β) : ka_K β := fun L S h => match S with
  | .int x :: S => if x.toInt < lo then Kd L S h else match Ks[(x.toInt - lo).toNat]? with
    | some K => K L S h
    | none => Kd L S h
  | _ => none
theorem ks_tab {Ks : List (ka_K β)} {Kd : ka_K β} {dflt lo hi : Int} {offs : Array Int} {len : Nat} (tgts : List Nat) (td : Nat) (hd : decode cc pc = .ok (.tableswitch dflt lo hi offs, len)) (hoff : offs.toList = tgts.map (fun t : Nat => (t : Int) - (pc : Int))) (hlen : Ks.length = tgts.length) (hhi : lo + (tgts.length : Int) = hi + 1) (htd : (pc : Int) + dflt = (td : Int))
    (h1 : ∀ (i t : Nat) (K : ka_K β), tgts[i]? = some t → Ks[i]? = some K → ka_S own cc nL nm FR LO cv t K) (h2 : ka_S own cc nL nm FR LO cv td Kd) : ka_S own cc nL nm FR LO cv pc (ki_tab lo Ks Kd) := by
  refine ks_step fun L S h b hb => ?_
  unfold ki_tab at hb
  split at hb
  · next x S =>
    split at hb
    · next hx =>
      exact ⟨_, Kd, L, _, h2, hb, fun D p l e R s m args below meth c Q cells slots cx H locs ls hP hL kk => lv_tableOut cx.1 cx.2.1 hd (Or.inl hx) htd (kk ls hL)⟩
    · next hx =>
      split at hb
      · next K hK =>
        have hi1 : (x.toInt - lo).toNat < tgts.length := by rw [← hlen]; exact (List.getElem?_eq_some_iff.mp hK).1
        have ht : tgts[(x.toInt - lo).toNat]? = some (tgts[(x.toInt - lo).toNat]) := List.getElem?_eq_getElem hi1
        refine ⟨_, K, L, _, h1 _ _ K ht hK, hb, fun D p l e R s m args below meth c Q cells slots cx H locs ls hP hL kk => lv_tableIn cx.1 cx.2.1 hd hx (by omega) (off := (tgts[(x.toInt - lo).toNat] : Int) - (pc : Int)) ?_ (by omega) (kk ls hL)⟩
        rw [← Array.getElem?_toList, hoff, List.getElem?_map, ht]
        rfl
      · next hK =>
        have hi1 : tgts.length ≤ (x.toInt - lo).toNat := by rw [← hlen]; exact List.getElem?_eq_none_iff.mp hK
        exact ⟨_, Kd, L, _, h2, hb, fun D p l e R s m args below meth c Q cells slots cx H locs ls hP hL kk => lv_tableOut cx.1 cx.2.1 hd (Or.inr (by omega)) htd (kk ls hL)⟩
  · cases hb
end KI
