/-! Math.max, Math.min -/
section MM2
variable {l : Launch} {E : EN} {d : Nat} {M : MR} {pc : Nat} {lo : LO} {st : List Value} {h : CH} {Q : Outcome → CH → Prop}
theorem x_mmax {idx : Nat} {x y : Int32} (hd : decode (mB M) pc = .ok (.invokestatic idx, 3)) (hq : Cond.methodLink (mY M).cls idx Lib.Math.max.name ∈ lw_all) (hst : Cond.static Lib.Math.max.name ∈ lw_all) (hin : Cond.initialized "java/lang/Math" ∈ lw_all) (hc : Cond.code Lib.Math.max.name Lib.Math.max.code 2 (some .int) ∈ lw_all) (hw : (st.map fun v => v.category).sum ≤ 20) (hLm : lo.length = mL M)
    (kk : Ex l E d M (pc + 3) lo (.int (if x < y then y else x) :: st) h Q) : Ex l E d M pc lo (.int y :: .int x :: st) h Q := by
  intro p e R s m args below meth c u C ls H locs cells slots hL hC
  have K := C.2.2.2.2.2.2.2.2.1
  obtain ⟨r1, r2, r3, r4, -⟩ := C.2.2.2.2.2.2.2.2.2
  obtain ⟨hR, hlo, hcs, hss⟩ := id hC
  have q1 := hR.1.2.2.2.1
  have q2 := hR.1.2.2.2.2
  exact va_mmax C.1 C.2.1 (by rw [C.2.2.1, ← hLm]; exact hL.1.symm) C.2.2.2.2.2.1 (K.word hq) (K.word hst) (K.word hin) (K.word hc) (by omega) (by omega) (by omega) (by omega) hd (kk p e R s m args below meth c u C ls H locs cells slots hL hC)
theorem x_mmin {idx : Nat} {x y : Int32} (hd : decode (mB M) pc = .ok (.invokestatic idx, 3)) (hq : Cond.methodLink (mY M).cls idx Lib.Math.min.name ∈ lw_all) (hst : Cond.static Lib.Math.min.name ∈ lw_all) (hin : Cond.initialized "java/lang/Math" ∈ lw_all) (hc : Cond.code Lib.Math.min.name Lib.Math.min.code 2 (some .int) ∈ lw_all) (hw : (st.map fun v => v.category).sum ≤ 20) (hLm : lo.length = mL M)
    (kk : Ex l E d M (pc + 3) lo (.int (if y < x then y else x) :: st) h Q) : Ex l E d M pc lo (.int y :: .int x :: st) h Q := by
  intro p e R s m args below meth c u C ls H locs cells slots hL hC
  have K := C.2.2.2.2.2.2.2.2.1
  obtain ⟨r1, r2, r3, r4, -⟩ := C.2.2.2.2.2.2.2.2.2
  obtain ⟨hR, hlo, hcs, hss⟩ := id hC
  have q1 := hR.1.2.2.2.1
  have q2 := hR.1.2.2.2.2
  exact va_mmin C.1 C.2.1 (by rw [C.2.2.1, ← hLm]; exact hL.1.symm) C.2.2.2.2.2.1 (K.word hq) (K.word hst) (K.word hin) (K.word hc) (by omega) (by omega) (by omega) (by omega) hd (kk p e R s m args below meth c u C ls H locs cells slots hL hC)
theorem x_mmaxL {idx : Nat} {x y : Int64} (hd : decode (mB M) pc = .ok (.invokestatic idx, 3)) (hq : Cond.methodLink (mY M).cls idx Lib.MathLoose.max_long.x ∈ lw_all) (hst : Cond.static Lib.MathLoose.max_long.x ∈ lw_all) (hin : Cond.initialized "java/lang/Math" ∈ lw_all) (hc : Cond.code Lib.MathLoose.max_long.x Lib.MathLoose.max_long.code 4 (some .long) ∈ lw_all) (hw : (st.map fun v => v.category).sum ≤ 20) (hLm : lo.length = mL M)
    (kk : Ex l E d M (pc + 3) lo (.long (if y < x then x else y) :: st) h Q) : Ex l E d M pc lo (.long y :: .long x :: st) h Q := by
  intro p e R s m args below meth c u C ls H locs cells slots hL hC
  have K := C.2.2.2.2.2.2.2.2.1
  obtain ⟨r1, r2, r3, r4, -⟩ := C.2.2.2.2.2.2.2.2.2
  obtain ⟨hR, hlo, hcs, hss⟩ := id hC
  have q1 := hR.1.2.2.2.1
  have q2 := hR.1.2.2.2.2
  exact va_mmax_long C.1 C.2.1 (by rw [C.2.2.1, ← hLm]; exact hL.1.symm) C.2.2.2.2.2.1 (K.word hq) (K.word hst) (K.word hin) (K.word hc) (by omega) (by omega) (by omega) (by omega) hd (kk p e R s m args below meth c u C ls H locs cells slots hL hC)
end MM2
theorem mq_max : Cond.code Lib.Math.max.name Lib.Math.max.code 2 (some .int) ∈ lw_all := q670
theorem mq_min : Cond.code Lib.Math.min.name Lib.Math.min.code 2 (some .int) ∈ lw_all := q673
theorem mq_maxL : Cond.code Lib.MathLoose.max_long.x Lib.MathLoose.max_long.code 4 (some .long) ∈ lw_all := q1874
