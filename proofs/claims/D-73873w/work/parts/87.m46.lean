/-! ===== the model: sorts, shake ===== -/
theorem lg_map {l : List Int} {f : Int → Int} {j : Nat} (h : j < l.length) : lg (l.map f) j = f (lg l j) := by simp [lg, h]
def rSoW (tall : Int) (r : Int → Int) (f : Int) : Nat → Int → Int
  | 0 => r
  | i + 1 => rSrt tall (rSoW tall r f i) (lGr (rSoW tall r f i) f ((i : Int) + 1) (r 2).toNat)
def rSoF (tall : Int) (r : Int → Int) : Nat → Int → Int
  | 0 => r
  | j + 1 => rSoW tall (rSoF tall r j) ((j : Int) - 1) 6
theorem sBO_mem (w : List Int → Int) (ps : List (List Int)) (x : List Int × Int) : (sBO w ps x).1 = x.1 ∨ (sBO w ps x).1 ∈ ps := by
  induction ps generalizing x with
  | nil => exact Or.inl rfl
  | cons o t ih =>
    rw [sBO]
    rcases ih (if w o < x.2 then (o, w o) else x) with z | z
    · rw [z]
      split
      · right; simp
      · left; rfl
    · right
      simp [z]
theorem rSrt_ok {tall : Int} {r : Int → Int} {gl : List Int} (v : vOk r) (hn : gl.length ≤ 5) (hgl : ∀ c, c ∈ gl → 0 ≤ c ∧ c < 20) : vOk (rSrt tall r gl) ∧ sameX r (rSrt tall r gl) := by
  unfold rSrt
  obtain ⟨k1, k2, k3⟩ := pm_ok ⟨gl.length, by omega⟩
  dsimp only at k1 k2 k3
  rw [List.all_eq_true] at k3
  have go : gdO gl.length (sBO (fun o => sWire tall (rGs (lPG gl (gl.map (fun c => r (36 + 7 * c + 5))) (gl.map (fun c => r (36 + 7 * c + 6))) o gl.length) r)) (lPm 120 (idL gl.length)) (idL gl.length, sWire tall r)).1 = true := by
    rcases sBO_mem (fun o => sWire tall (rGs (lPG gl (gl.map (fun c => r (36 + 7 * c + 5))) (gl.map (fun c => r (36 + 7 * c + 6))) o gl.length) r)) (lPm 120 (idL gl.length)) (idL gl.length, sWire tall r) with z | z
    · rw [z]; exact k2
    · exact k3 _ z
  refine rGs_ok v ?_
  intro x hx
  obtain ⟨i, i1, i2⟩ := lPG_fst hx
  have bo := gdO_b go i1
  subst i2
  generalize (sBO (fun o => sWire tall (rGs (lPG gl (gl.map (fun c => r (36 + 7 * c + 5))) (gl.map (fun c => r (36 + 7 * c + 6))) o gl.length) r)) (lPm 120 (idL gl.length)) (idL gl.length, sWire tall r)).1 = o at bo
  have hlt : (lg o i).toNat < gl.length := by omega
  dsimp only
  refine ⟨?_, ?_, ?_⟩
  · have : lg gl i = gl[i] := by simp [lg, i1]
    rw [this]
    exact hgl _ (List.getElem_mem _)
  · rw [lg_map hlt]
    exact v.1.1 _
  · rw [lg_map hlt]
    exact v.1.1 _
theorem rSoW_ok {tall : Int} {r : Int → Int} {f : Int} (v : vOk r) (n : Nat) : vOk (rSoW tall r f n) ∧ sameX r (rSoW tall r f n) := by
  have g2 := v.1.2.2.2.1
  induction n with
  | zero => exact ⟨v, sameX_r r⟩
  | succ n ih =>
    obtain ⟨i1, i2⟩ := ih
    have l := lGr_ok (rSoW tall r f n) f ((n : Int) + 1) (r 2).toNat
    have := rSrt_ok (tall := tall) i1 l.1 (fun c hc => by have := l.2 c hc; omega)
    exact ⟨this.1, sameX_t i2 this.2⟩
theorem rSoF_ok {tall : Int} {r : Int → Int} (v : vOk r) (n : Nat) : vOk (rSoF tall r n) ∧ sameX r (rSoF tall r n) := by
  induction n with
  | zero => exact ⟨v, sameX_r r⟩
  | succ n ih =>
    have := rSoW_ok (tall := tall) (f := (n : Int) - 1) ih.1 6
    exact ⟨this.1, sameX_t ih.2 this.2⟩
section M46
variable {N : Nat} {h : ka_H} {a : Nat} {mf : Nat → Int} {ma : Nat → Int → Int}
/-- all but what sorting changes -/
def mT (mf : Nat → Int) (ma : Nat → Int → Int) (mf' : Nat → Int) (ma' : Nat → Int → Int) : Prop := (∀ k, k ≠ 34 → mf' k = mf k) ∧ (∀ p, p ≠ 2 → p ≠ 17 → p ≠ 18 → p ≠ 21 → p ≠ 22 → p ≠ 23 → ma' p = ma p)
theorem mT_t {mf mf1 mf2 : Nat → Int} {ma ma1 ma2 : Nat → Int → Int} (h1 : mT mf ma mf1 ma1) (h2 : mT mf1 ma1 mf2 ma2) : mT mf ma mf2 ma2 := ⟨fun k hk => by rw [h2.1 k hk, h1.1 k hk], fun p a1 a2 a3 a4 a5 a6 => by rw [h2.2 p a1 a2 a3 a4 a5 a6, h1.2 p a1 a2 a3 a4 a5 a6]⟩
theorem c_sorts1 {f w : Int} (hN : 5000 ≤ N) (v : vOk (ma 2)) (tm : tmOk (ma 1)) (hf : -1 ≤ f ∧ f ≤ 10) (hw : 0 ≤ w ∧ w ≤ 10) (R : ka_H → Option (Int32 × ka_H)) :
    ∃ mf' ma', mT mf ma mf' ma' ∧ ma' 2 = rSrt (ma 1 4) (ma 2) (lGr (ma 2) f w (ma 2 2).toNat) ∧ (if ka_isc (mH h a mf ma) [11] a = true then (fm_X9_layGroup N [.ref a, .int (iI f), .int (iI w)] (mH h a mf ma)).bind fun r1 => (if ka_isc r1 [11] a = true then (fm_X9_sortGroup N [.ref a] r1).bind R else none) else none) = R (mH h a mf' ma') := by
  have g2 := v.1.2.2.2.1
  have l := lGr_ok (ma 2) f w (ma 2 2).toNat
  generalize hgl : lGr (ma 2) f w (ma 2 2).toNat = gl at l ⊢
  have lgp := c_layGroup (N := N) (h := h) (a := a) (mf := mf) (ma := ma) (f := f) (w := w) hN v hf hw
  rw [hgl] at lgp
  have e2 : mGr ma (ma 2) gl 2 = ma 2 := mGr_n (by omega)
  obtain ⟨l', b', y⟩ := c_sortGroup (N := N) (h := h) (a := a) (mf := mF mf 34 gl.length) (ma := mGr ma (ma 2) gl) (gl := gl) hN (by rw [e2]; exact v) (by rw [mGr_n (by omega)]; exact tm) l.1 (mF_s _ _ _) (fun c hc => by have := l.2 c hc; omega) (by rw [mGr_21]; exact rIs_list _ _) (by rw [mGr_22, e2]; exact rIs_list _ _) (by rw [mGr_23, e2]; exact rIs_list _ _)
  rw [e2, mGr_n (by omega)] at y
  refine ⟨mF mf 34 gl.length, mO (mGr ma (ma 2) gl) l' b' (rSrt (ma 1 4) (ma 2) gl), ⟨fun k hk => mF_n hk, fun p a1 a2 a3 a4 a5 a6 => by rw [mO_n a2 a3 a1, mGr_n (by omega)]⟩, mA_2 _ _ _, ?_⟩
  rw [if_pos m_isc, lgp, Option.bind_some, if_pos m_isc, y, Option.bind_some]
theorem c_sorts (hN : 5000 ≤ N) (v : vOk (ma 2)) (tm : tmOk (ma 1)) (h9 : 0 ≤ mf 9 ∧ mf 9 ≤ 12) :
    ∃ mf' ma', mYesP mf ma 16 (rSoF (ma 1 4) (ma 2) ((ma 2 1).toNat + 1)) mf' ma' ∧ fm_X9_sorts N [.ref a] (mH h a mf ma) = some (iI (sWire (ma 1 4) (ma 2) - sWire (ma 1 4) (rSoF (ma 1 4) (ma 2) ((ma 2 1).toNat + 1))), mH h a mf' ma') := by
  have g1 := v.1.2.2.1
  have g2 := v.1.2.2.2.1
  have e1 : mRem mf ma 16 1 = ma 1 := mRem_n (by decide) (by decide)
  have es : mA (mRem mf ma 16) 2 (ma 2) = mRem mf ma 16 := by
    have : ma 2 = mRem mf ma 16 2 := (mRem_2 mf ma 16).symm
    rw [this, mA_self]
  have w0 := c_wireV (N := N) (h := h) (a := a) (mf := mF (mF mf 0 0) 9 (if mf 9 = 12 then 12 else mf 9 + 1)) (ma := mRem mf ma 16) hN v
  rw [es, e1] at w0
  rw [en_X9_sorts, eq_X9_sorts_0, m_p0, Option.bind_some, if_pos m_isc, c_rem0 hN h9, Option.bind_some, if_pos m_isc, w0, Option.bind_some]
  dsimp only
  generalize hm1 : mF (mF mf 0 0) 9 (if mf 9 = 12 then 12 else mf 9 + 1) = mf1
  have key := fix_ms (B := cm_X9_sorts_18 N) (fun x : Nat × (Nat → Int) × (Nat → Int → Int) => [some (.ref a), some (.int (iI (sWire (ma 1 4) (ma 2)))), some (.int (iI ((x.1 : Int) - 1)))]) (fun x => mH h a x.2.1 x.2.2) (fun x => x.1 ≤ (ma 2 1).toNat + 1 ∧ mT mf1 (mRem mf ma 16) x.2.1 x.2.2 ∧ x.2.2 2 = rSoF (ma 1 4) (ma 2) x.1) (fun x => (ma 2 1).toNat + 1 - x.1) (fun z => ∃ mf' ma', mYesP mf ma 16 (rSoF (ma 1 4) (ma 2) ((ma 2 1).toNat + 1)) mf' ma' ∧ z = some (iI (sWire (ma 1 4) (ma 2) - sWire (ma 1 4) (rSoF (ma 1 4) (ma 2) ((ma 2 1).toNat + 1))), mH h a mf' ma')) ?_ N (0, mf1, mRem mf ma 16) ⟨by dsimp only; omega, ⟨fun _ _ => rfl, fun _ _ _ _ _ _ _ => rfl⟩, mRem_2 mf ma 16⟩ (by dsimp only; omega)
  · exact key
  · rintro K ⟨j, mf2, ma2⟩ ⟨p1, p2, p3⟩
    dsimp only at p1 p2 p3 ⊢
    obtain ⟨o1, o2⟩ := rSoF_ok (tall := ma 1 4) v j
    have f1 : ma2 1 = ma 1 := by rw [p2.2 1 (by decide) (by decide) (by decide) (by decide) (by decide) (by decide)]; exact e1
    have f21 : ma2 2 1 = ma 2 1 := by rw [p3]; exact o2 1 (by omega)
    by_cases e : j = (ma 2 1).toNat + 1
    · left
      have w1 := c_wire (N := N) (h := h) (a := a) (mf := mf2) (ma := ma2) hN (by rw [p3]; exact o1.1) (by rw [p3]; exact o1.2.1)
      rw [p3, f1, e] at w1
      refine ⟨mF mf2 1 0, ma2, ⟨⟨?_, mF_s _ _ _, ?_, ?_, ?_, ?_⟩, ?_, f1, by rw [p3, e], ?_, ?_, ?_⟩, ?_⟩
      · rw [mF_n (by decide), p2.1 0 (by decide), ← hm1]; rfl
      · rw [mF_n (by decide), p2.1 2 (by decide), ← hm1]; rfl
      · rw [mF_n (by decide), p2.1 3 (by decide), ← hm1]; rfl
      · rw [mF_n (by decide), p2.1 9 (by decide), ← hm1]; rfl
      · rw [mF_n (by decide), p2.1 13 (by decide), ← hm1]; rfl
      · rw [p2.2 0 (by decide) (by decide) (by decide) (by decide) (by decide) (by decide), mRem_n (by decide) (by decide)]
      · rw [p2.2 3 (by decide) (by decide) (by decide) (by decide) (by decide) (by decide)]
      · rw [p2.2 4 (by decide) (by decide) (by decide) (by decide) (by decide) (by decide)]
      · rw [p2.2 7 (by decide) (by decide) (by decide) (by decide) (by decide) (by decide), mRem_n (by decide) (by decide)]
      · rw [eq_X9_sorts_18, m_r6, Option.bind_some, m_l6 (by omega) (by omega), Option.bind_some, f21, if_pos ((iI_le ⟨by omega, by omega⟩ ⟨by omega, by omega⟩).mpr (by omega)), if_pos m_isc, w1, Option.bind_some]
        dsimp only
        rw [if_pos m_isc, c_tell, Option.bind_some, iI_sub]
    · right
      have inner := fix_ms (B := cm_X9_sorts_30 N K) (fun x : Nat × (Nat → Int) × (Nat → Int → Int) => [some (.ref a), some (.int (iI (sWire (ma 1 4) (ma 2)))), some (.int (iI ((j : Int) - 1))), some (.int (iI ((x.1 : Int) + 1)))]) (fun x => mH h a x.2.1 x.2.2) (fun x => x.1 ≤ 6 ∧ mT mf2 ma2 x.2.1 x.2.2 ∧ x.2.2 2 = rSoW (ma 1 4) (rSoF (ma 1 4) (ma 2) j) ((j : Int) - 1) x.1) (fun x => 6 - x.1) (fun z => ∃ mf' ma', mT mf2 ma2 mf' ma' ∧ ma' 2 = rSoF (ma 1 4) (ma 2) (j + 1) ∧ z = K [some (.ref a), some (.int (iI (sWire (ma 1 4) (ma 2)))), some (.int (iI ((j : Int) - 1 + 1)))] [] (mH h a mf' ma')) ?_ N (0, mf2, ma2) ⟨by dsimp only; omega, ⟨fun _ _ => rfl, fun _ _ _ _ _ _ _ => rfl⟩, p3⟩ (by dsimp only; omega)
      · obtain ⟨mf3, ma3, y1, y2, y3⟩ := inner
        refine ⟨(j + 1, mf3, ma3), ⟨by dsimp only; omega, mT_t p2 y1, y2⟩, by dsimp only; omega, ?_⟩
        dsimp only
        rw [eq_X9_sorts_18, m_r6, Option.bind_some, m_l6 (by omega) (by omega), Option.bind_some, f21, if_neg (fun z => by have := (iI_le ⟨by omega, by omega⟩ ⟨by omega, by omega⟩).mp z; omega)]
        rw [show ((j + 1 : Nat) : Int) - 1 = (j : Int) - 1 + 1 by omega, ← y3]
        rfl
      · rintro K2 ⟨i, mf3, ma3⟩ ⟨s1, s2, s3⟩
        dsimp only at s1 s2 s3 ⊢
        obtain ⟨u1, u2⟩ := rSoW_ok (tall := ma 1 4) (f := (j : Int) - 1) o1 i
        by_cases e3 : i = 6
        · left
          refine ⟨mf3, ma3, s2, ?_, ?_⟩
          · rw [s3, e3]; rfl
          · rw [eq_X9_sorts_30, if_pos ((iI_le ⟨by omega, by omega⟩ ⟨by omega, by omega⟩).mpr (by omega)), iI_add]
        · right
          have t1 : ma3 1 = ma 1 := by rw [s2.2 1 (by decide) (by decide) (by decide) (by decide) (by decide) (by decide)]; exact f1
          obtain ⟨mf4, ma4, y1, y2, y3⟩ := c_sorts1 (N := N) (h := h) (a := a) (mf := mf3) (ma := ma3) (f := (j : Int) - 1) (w := (i : Int) + 1) hN (by rw [s3]; exact u1) (by rw [t1]; exact tm) (by omega) (by omega) (fun r2 => K2 [some (.ref a), some (.int (iI (sWire (ma 1 4) (ma 2)))), some (.int (iI ((j : Int) - 1))), some (.int (iI ((i : Int) + 1) + iI 1))] [] r2)
          refine ⟨(i + 1, mf4, ma4), ⟨by dsimp only; omega, mT_t s2 y1, ?_⟩, by dsimp only; omega, ?_⟩
          · dsimp only
            rw [y2, t1, s3, u2 2 (by omega)]
            rfl
          · dsimp only
            rw [eq_X9_sorts_30, if_neg (fun z => by have := (iI_le ⟨by omega, by omega⟩ ⟨by omega, by omega⟩).mp z; omega), y3, iI_add]
            rfl
end M46
