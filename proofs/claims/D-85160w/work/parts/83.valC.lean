/-! THE COMPONENT'S TREES: names; numerals -/
section CVa
variable {l : Launch} {E : EN} {w : CO} {d : Nat} {s s' s0 : CS} {f f' f0 : RH} {Q : KO → CS → RH → Prop} {fuel : Nat} {Bb : Nat × Nat} {P : Pg} {C pl A : List Th} {fr : List Fm} {N : List Nat} {wy : List Wy} {sh sh1 : Nat → Option Th} {ct ct1 : Ct} {out out1 : List Int32} {a t h L : Nat} {place : Int32}
/-- one more is on the pile -/
theorem cR.push {v : Th} {k : Int32} {x : Value} (h : cR E f0 s0 fuel Bb C fr N sh ct out s f) (hl : C.length + 1 ≤ 8380) (hf : cfr JC C.length s s') (h26 : s'.1 26 = nI (C.length + 1)) (h40 : s'.1 40 = s.1 40) (h24 : s'.2.2.1 24 C.length = k) (h25 : s'.2.2.2 25 C.length = x) (hv : rcV E f k x v) (hw : ZW v) : cR E f0 s0 fuel Bb (C ++ [v]) fr N sh ct out s' f := by
  obtain ⟨hB, g1, g2, g3, g4, g5⟩ := h
  have e : C = C ++ [] := (List.append_nil C).symm
  have hB' := hB
  rw [e] at hB'
  have hB2 := hB'.ord (md := ct.2.1) (Frz.rf f) ⟨hB.2.2.2.2.2.2.2.1, hB.2.2.2.2.2.2.2.2.1⟩ hf (h40.trans hB.2.2.2.1.2.2.2.1) (Nat.le_refl _)
  refine ⟨⟨hB2.1.app hl (by rw [h24, h25]; exact hv) hw, hB2.2⟩, by rw [h26, List.length_append]; rfl, ?_, g3, g4, g5⟩
  rw [hf.1 36 (by decide)]; exact g2
theorem nI_var (k n : Nat) (hn : 8 ≤ n) (h : 14 * k + n < 2 ^ 31) : 14 * (nI (k + 1) - 1) + nI n - 8 = nI (14 * k + (n - 8)) := by
  rw [nI_pred, show (14 : Int32) = nI 14 from rfl, pk_mul, nI_add, show (8 : Int32) = nI 8 from rfl, pk_sub (by omega)]
  congr 1
  omega
theorem C_value (hst : l.stackTraces = false) {n nv : Nat} (h : cR E f0 s0 fuel Bb C fr N sh ct out s f) (hl : C.length + 1 ≤ 8380) (hN : N.head? = some nv) (hn : n < 8 + nv) (h0 : aget fr sh n = none → Q (.inr 9) (cwrong s 7 place) f) (h1 : ∀ v, aget fr sh n = some v → ∀ s1, cR E f0 s0 fuel Bb (C ++ [v]) fr N sh ct out s1 f → Q (.inl none) s1 f) : EvC l E w (d + 1) MX3_value [.ref (w.1 3), .int (nI n), .int place] s f Q := by
  obtain ⟨hB, g1, g2, g3, g4, g5⟩ := id h
  have hsh := hB.2.2.1
  have hcf := hB.2.1
  obtain ⟨q, r, rfl⟩ : ∃ q r, fr = q :: r := by
    match fr, g5.1 with
    | q :: r, _ => exact ⟨q, r, rfl⟩
  obtain ⟨ns, rfl⟩ : ∃ ns, N = nv :: ns := by
    match N, hN with
    | n' :: ns, hN => exact ⟨ns, by injection hN with hN; rw [hN]⟩
  have hrl : r.length ≤ 9 := by have := g5.2; simp at this; omega
  obtain ⟨⟨hnv, hvar⟩, -⟩ := hcf
  have go : ∀ {there num : Int32} {x : Value} {o : Option Th}, cVar E f there num x o → (∀ v, o = some v → isT f x ∧ isR x = true) := by
    intro there num x o hc v hv
    subst hv
    have h9 : rcV E f num x v := hc.2.1
    exact ⟨h9.isT, h9.isR⟩
  refine eX3_value hst ⟨fun c => ?_, fun c => ?_⟩
  · have h8 : 8 ≤ n := by
      have : (8 : Int32) = nI 8 := rfl
      rw [this] at c
      exact (nI_leI (by omega) (by omega)).mp c
    intro y1 ey
    have e36 : s.1 36 = nI (r.length + 1) := g2
    rw [e36, nI_var r.length n h8 (by omega)] at ey
    subst ey
    have hv := hvar (n - 8) (by omega)
    have hg : aget (q :: r) sh n = q.1 (n - 8) := if_neg (by omega)
    rw [hg] at h0 h1
    rw [nI_clamp (by omega)]
    refine ⟨inB_n (by omega), fun c1 => ⟨inB_n (by omega), ?_⟩, fun c1 => C_wrong hst (Q := Q) (h0 ?_) (fun _ _ _ => rfl)⟩
    · obtain ⟨v, ev⟩ : ∃ v, q.1 (n - 8) = some v := by
        match hq : q.1 (n - 8), hv with
        | none, hv => exact absurd hv c1
        | some v, _ => exact ⟨v, rfl⟩
      have hz := go hv v ev
      rw [ev] at hv
      refine C_push hst g1 (by omega) ⟨rfl, inB_n (by omega), _, rfl, hz.2, ?_⟩
      have e26 : (cpsh s C.length (s.2.2.1 27 (14 * r.length + (n - 8))) .null).1 26 = nI (C.length + 1) := rfl
      rw [e26, nI_pred, nI_clamp (n := C.length) (by omega)]
      refine ⟨inB_n (by omega), hz.1, h1 v ev _ (h.push hl ?_ rfl rfl ?_ ?_ hv.2.1 hv.2.2)⟩
      · exact (cpsh_fr JC s _ _ (Nat.le_refl _)).trans (cfr.uT JC _ _ (Nat.le_refl _))
      · show (if 24 = 24 ∧ C.length = C.length then _ else _) = _
        rw [if_pos ⟨rfl, rfl⟩]
      · show (if 25 = 25 ∧ C.length = C.length then _ else _) = _
        rw [if_pos ⟨rfl, rfl⟩]
        rfl
    · match hq : q.1 (n - 8), hv with
      | none, _ => rfl
      | some v, hv => rw [hv.1] at c1; exact absurd c1 (by decide)
  · have h8 : n < 8 := by
      have : (8 : Int32) = nI 8 := rfl
      rw [this] at c
      have := mt (nI_leI (by omega) (by omega)).mpr c
      omega
    have hv := (hsh n h8).v
    have hg : aget (q :: r) sh n = sh n := if_pos h8
    rw [hg] at h0 h1
    rw [nI_clamp (by omega)]
    refine ⟨inB_n (by omega), fun c1 => ⟨inB_n (by omega), ?_⟩, fun c1 => C_wrong hst (Q := Q) (h0 ?_) (fun _ _ _ => rfl)⟩
    · obtain ⟨v, ev⟩ : ∃ v, sh n = some v := by
        match hq : sh n, hv with
        | none, hv => exact absurd hv c1
        | some v, _ => exact ⟨v, rfl⟩
      have hz := go hv v ev
      rw [ev] at hv
      refine C_push hst g1 (by omega) ⟨rfl, inB_n (by omega), _, rfl, hz.2, ?_⟩
      have e26 : (cpsh s C.length (s.2.2.1 42 n) .null).1 26 = nI (C.length + 1) := rfl
      rw [e26, nI_pred, nI_clamp (n := C.length) (by omega)]
      refine ⟨inB_n (by omega), hz.1, h1 v ev _ (h.push hl ?_ rfl rfl ?_ ?_ hv.2.1 hv.2.2)⟩
      · exact (cpsh_fr JC s _ _ (Nat.le_refl _)).trans (cfr.uT JC _ _ (Nat.le_refl _))
      · show (if 24 = 24 ∧ C.length = C.length then _ else _) = _
        rw [if_pos ⟨rfl, rfl⟩]
      · show (if 25 = 25 ∧ C.length = C.length then _ else _) = _
        rw [if_pos ⟨rfl, rfl⟩]
        rfl
    · match hq : sh n, hv with
      | none, _ => rfl
      | some v, hv => rw [hv.1] at c1; exact absurd c1 (by decide)
end CVa
