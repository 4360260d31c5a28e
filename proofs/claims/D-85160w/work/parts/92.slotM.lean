/-! THE MODEL: places of their own, one a shelf -/
def mSl (h : Nat → Int32) (a : Nat) : Option Th → Prop
  | none => h a = -1
  | some t => ZW t ∧ ((zk t = 0 ∧ h a = 0 ∧ h (a + 1) = zv t) ∨ (¬ zk t = 0 ∧ rmT (fun i => h (a + i)) 2410 true t 0 0))
theorem mSl.eq {h h' : Nat → Int32} {a : Nat} {o : Option Th} (he : ∀ i, a ≤ i → i < a + 2410 → h' i = h i) (k : mSl h a o) : mSl h' a o := by
  cases o with
  | none => exact (he a (by omega) (by omega)).trans k
  | some t =>
    obtain ⟨k1, k2⟩ := k
    refine ⟨k1, ?_⟩
    rcases k2 with ⟨a1, a2, a3⟩ | ⟨a1, a2⟩
    · exact Or.inl ⟨a1, by rw [he _ (by omega) (by omega)]; exact a2, by rw [he _ (by omega) (by omega)]; exact a3⟩
    · exact Or.inr ⟨a1, (rmT_monoR (fun i hi _ => he (a + i) (by omega) (by omega)) t).1 0 0 a2⟩
theorem mVar.eqR {h h' : Nat → Int32} {b : Nat} {k v : Int32} {o : Option Th} (he : ∀ i, i < b → (i < 19280 ∨ 154240 ≤ i) → h' i = h i) (q : mVar h b k v o) : mVar h' b k v o := by
  cases o with
  | none => exact q
  | some t =>
    obtain ⟨q1, q2⟩ := q
    refine ⟨?_, q2⟩
    rcases q1 with q1 | ⟨a1, a2, p, a3, a4⟩
    · exact Or.inl q1
    · exact Or.inr ⟨a1, a2, p, a3, (rmT_monoR he t).1 p 0 a4⟩
section MSl
variable {l : Launch} {E : EN} {w : MO} {d : Nat} {s : MS} {Q : Option Value → MS → Prop}
theorem M_layV (hst : l.stackTraces = false) {b to : Nat} {o : Option Th} {k v : Int32} (hv : mVar (s.2.2.1 104) b k v o) (hb : b ≤ 166300) (h1 : 19280 ≤ to) (hto : to + 2410 ≤ 154240) (hQ : ∀ s', mfL to s s' → mSl (s'.2.2.1 104) to o → Q none s') : EvM l E w (d + 3) MX10_lay [.ref w.1, .int k, .int v, .int (nI to)] s Q := by
  cases o with
  | none =>
    have hv : k = 2 := hv
    subst hv
    refine eX10_lay hst ⟨fun c => absurd rfl c, fun _ => ⟨inB_n (by omega), ?_⟩⟩
    rw [nI_clamp (by omega)]
    exact hQ _ (mfL.w to s (Nat.le_refl _) (by omega)) (if_pos ⟨rfl, rfl⟩)
  | some t =>
    obtain ⟨q1, wt⟩ := hv
    rcases q1 with ⟨a1, rfl, rfl⟩ | ⟨a1, rfl, p, rfl, a4⟩
    · refine eX10_lay hst ⟨fun _ => ⟨fun c => absurd rfl c, fun _ => ⟨inB_n (by omega), ?_⟩⟩, fun c => absurd c (by decide)⟩
      rw [nI_1, nI_clamp (n := to) (by omega), nI_clamp (n := to + 1) (by omega)]
      refine ⟨inB_n (by omega), hQ _ ((mfL.w to s (Nat.le_refl _) (by omega)).trans (mfL.w to _ (by omega) (by omega))) ⟨wt, Or.inl ⟨a1, ?_, if_pos ⟨rfl, rfl⟩⟩⟩⟩
      rw [sA_ne _ _ (fun z => by omega)]
      exact if_pos ⟨rfl, rfl⟩
    · have e0 : (fun i => s.2.2.1 104 (0 + i)) = s.2.2.1 104 := by funext i; rw [Nat.zero_add]
      have := M_lay (l := l) (E := E) (w := w) (d := d) (s := s) (Q := Q) (o := 0) (B := b) (to := to) (p := p) hst wt a1 hto (by omega) (fun a _ h => by omega) (by rw [e0]; exact a4) (fun s' q1 q2 => hQ s' q1 ⟨wt, Or.inr ⟨a1, q2⟩⟩)
      rw [Nat.zero_add] at this
      exact this
theorem M_copy (hst : l.stackTraces = false) {a to : Nat} {o : Option Th} (hv : mSl (s.2.2.1 104) a o) (ha : a + 2410 ≤ 154240) (hto : to + 2410 ≤ 154240) (hd : a + 2410 ≤ to ∨ to + 2410 ≤ a) (hQ : ∀ s', mfL to s s' → mSl (s'.2.2.1 104) to o → Q none s') : EvM l E w (d + 4) MX10_copy [.ref w.1, .int (nI a), .int (nI to)] s Q := by
  have hin : inB (nI a) 166300 := inB_n (by omega)
  have hin1 : inB (nI (a + 1)) 166300 := inB_n (by omega)
  cases o with
  | none =>
    have hv : s.2.2.1 104 a = -1 := hv
    refine eX10_copy hst ⟨hin, ?_⟩
    rw [nI_clamp (by omega), hv]
    refine ⟨fun c => absurd rfl c, fun _ => ⟨hin, fun _ => ?_, fun c => absurd c (by decide)⟩⟩
    refine eX10_lay hst ⟨fun c => absurd rfl c, fun _ => ⟨inB_n (by omega), ?_⟩⟩
    rw [nI_clamp (by omega)]
    exact ⟨rfl, hQ _ (mfL.w to s (Nat.le_refl _) (by omega)) (if_pos ⟨rfl, rfl⟩)⟩
  | some t =>
    obtain ⟨wt, q1⟩ := hv
    rcases q1 with ⟨a1, a2, a3⟩ | ⟨a1, a2⟩
    · refine eX10_copy hst ⟨hin, ?_⟩
      rw [nI_1, nI_clamp (n := a) (by omega), nI_clamp (n := a + 1) (by omega), a2, a3]
      refine ⟨fun _ => ⟨hin, fun c => absurd rfl c, fun _ => ⟨hin, fun c => absurd rfl c, fun _ => ⟨hin1, ?_⟩⟩⟩, fun c => absurd c (by decide)⟩
      refine eX10_lay hst ⟨fun _ => ⟨fun c => absurd rfl c, fun _ => ⟨inB_n (by omega), ?_⟩⟩, fun c => absurd c (by decide)⟩
      rw [nI_1, nI_clamp (n := to) (by omega), nI_clamp (n := to + 1) (by omega)]
      refine ⟨inB_n (by omega), rfl, hQ _ ((mfL.w to s (Nat.le_refl _) (by omega)).trans (mfL.w to _ (by omega) (by omega))) ⟨wt, Or.inl ⟨a1, ?_, if_pos ⟨rfl, rfl⟩⟩⟩⟩
      rw [sA_ne _ _ (fun z => by omega)]
      exact if_pos ⟨rfl, rfl⟩
    · have hh := rmT_head a2
      have h104 : s.2.2.1 104 a = nI (zk t) := hh.2.1
      have hk := zk_le t
      have n0 : ¬ nI (zk t) = 0 := by
        rw [show (0 : Int32) = nI 0 from rfl, nI_eq (by omega) (by decide)]; exact a1
      have n1 : ¬ nI (zk t) = -1 := nI_ne_m1 (by omega)
      refine eX10_copy hst ⟨hin, ?_⟩
      rw [nI_clamp (n := a) (by omega), h104]
      refine ⟨fun _ => ⟨hin, fun _ => ⟨hin, fun _ => ?_, fun c => absurd c n0⟩, fun c => absurd c n0⟩, fun c => absurd c n1⟩
      exact M_lay (o := a) (B := 2410) (to := to) (p := 0) hst wt a1 hto (by omega) (fun i hi _ => by omega) a2 (fun s' q1 q2 => ⟨rfl, hQ s' q1 ⟨wt, Or.inr ⟨a1, q2⟩⟩⟩)
end MSl
