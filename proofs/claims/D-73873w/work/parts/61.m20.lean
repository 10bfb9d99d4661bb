/-! ===== the model: wire ===== -/
section M20
variable {N : Nat} {h : ka_H} {a : Nat} {mf : Nat → Int} {ma : Nat → Int → Int}
def sWire (tall : Int) (r : Int → Int) : Int := aS (fun n => r (176 + 14 * n) * sSpan tall r n) (r 3).toNat
theorem c_wire (hN : 5000 ≤ N) (ok : rOk (ma 2)) (nk : nOk (ma 2)) : fm_X9_wire N [.ref a] (mH h a mf ma) = some (iI (sWire (ma 1 4) (ma 2)), mH h a mf ma) := by
  have g3 := ok.2.2.2.2.1
  have g30 : 0 ≤ ma 2 3 := by have := ok.2.2.2.2; omega
  rw [en_X9_wire, eq_X9_wire_0]
  refine fix_up (fun i => [some (.ref a), some (.int (iI (aS (fun n => ma 2 (176 + 14 * n) * sSpan (ma 1 4) (ma 2) n) i))), some (.int (iI i))]) (fun _ => mH h a mf ma) (ma 2 3).toNat ?_ ?_ N 0 (by omega) (by omega)
  · intro K
    rw [eq_X9_wire_4, m_r6, Option.bind_some, m_l6 (by omega) (by omega), Option.bind_some, if_pos ((iI_le ⟨by omega, by omega⟩ ⟨by omega, by omega⟩).mpr (by omega))]
    rfl
  · intro K i hi
    rw [eq_X9_wire_4, m_r6, Option.bind_some, m_l6 (by omega) (by omega), Option.bind_some, if_neg (fun q => by have := (iI_le ⟨by omega, by omega⟩ ⟨by omega, by omega⟩).mp q; omega), Option.bind_some, c_netAt, Option.bind_some]
    dsimp only
    rw [m_l6 (by omega) (by omega), Option.bind_some, if_pos m_isc, c_span hN ok nk (by omega) (by omega), Option.bind_some]
    dsimp only
    rw [iI_mul, iI_add, iI_add]
    rfl
end M20
