/-! KIDS: nodes that were read, kept in Nodes -/
def Kd (f : RH) (O : Nat → Od) (dC : List CE) (L : Nat) (D : List Nat) (nv a b g h v : Nat) : Prop := ∃ lo hi, L ≤ lo ∧ hi ≤ f.1 ∧ (∀ x ∈ D, x < lo ∨ hi ≤ x) ∧ Rp f O dC lo hi nv a b g h (.ref v)
theorem Kd.keep {f f' : RH} {O O' : Nat → Od} {C C' : List CE} {L nv nv' a b g h h' v : Nat} {D D' D2 : List Nat} (k : Kd f O C L D nv a b g h v) (hg : gE D' f f') (hD : ∀ x ∈ D', x < L ∨ x ∈ D ∨ f.1 ≤ x ∨ tg f x = some (.inr 8)) (hD2 : ∀ x ∈ D2, x ∈ D ∨ f.1 ≤ x) (hO : ∀ i, a ≤ i → i < b → O' i = O i) (hC : ∀ e ∈ C, e ∈ C') (hv : nv ≤ nv') (hh : h ≤ h') : Kd f' O' C' L D2 nv' a b g h' v := by
  obtain ⟨lo, hi, k1, k2, k3, k4⟩ := k
  have l := hg.1
  refine ⟨lo, hi, k1, by omega, fun x hx => ?_, (k4.keep (fun x x1 x2 x3 => hg.ce (by omega) (fun z => ?_)) hO hC hv).mono (Nat.le_refl _) hh⟩
  · rcases hD2 x hx with z | z
    · exact k3 x z
    · exact Or.inr (by omega)
  · rcases hD x z with y | y | y | y
    · omega
    · have := k3 x y; omega
    · omega
    · exact x3 y
theorem Kd.rep {f f' : RH} {O : Nat → Od} {C : List CE} {L nv nv' a b g h v M H : Nat} {D : List Nat} {P : Pg} {F : Nat → Nat} (k : Kd f O C L D nv a b g h v) (hH : f.1 ≤ H) (hb : H ≤ f'.2.2.2) (hA : Ag L H f f') (hO : ∀ i, a ≤ i → i < b → oAg (O i) (P.1 i)) (hC : ∀ e ∈ C, RS f' P F M e) (hv : nv ≤ nv') : RepN f' P F M nv' g (.ref v) a b h := by
  obtain ⟨lo, hi, k1, k2, k3, k4⟩ := k
  exact k4 f' P F M nv' (by omega) (fun x x1 x2 => hA x (by omega) (by omega)) hO hC hv
/-- m of them; k-th: orders c k up to e k -/
def Ks (f : RH) (O : Nat → Od) (dC : List CE) (L : Nat) (D : List Nat) (nv g hh : Nat) (wg : Nat → Nat) (m : Nat) (V : Nat → Nat) (c e : Nat → Nat) (a b : Nat) : Prop :=
  c 0 = a ∧ c m = b ∧ ∀ k, k < m → (a ≤ c k ∧ c k ≤ e k ∧ e k ≤ c (k + 1) ∧ c (k + 1) ≤ b) ∧ wg k ≤ hh ∧ Kd f O dC L D nv (c k) (e k) g (hh - wg k) (V k)
theorem Ks.keep {f f' : RH} {O O' : Nat → Od} {C C' : List CE} {L nv nv' g hh hh' m a b : Nat} {D D' D2 : List Nat} {wg V c e : Nat → Nat} (k : Ks f O C L D nv g hh wg m V c e a b) (hg : gE D' f f') (hD : ∀ x ∈ D', x < L ∨ x ∈ D ∨ f.1 ≤ x ∨ tg f x = some (.inr 8)) (hD2 : ∀ x ∈ D2, x ∈ D ∨ f.1 ≤ x) (hO : ∀ i, i < b → O' i = O i) (hC : ∀ e ∈ C, e ∈ C') (hv : nv ≤ nv') (hh2 : hh ≤ hh') : Ks f' O' C' L D2 nv' g hh' wg m V c e a b := by
  refine ⟨k.1, k.2.1, fun i hi => ?_⟩
  obtain ⟨k1, k2, k3⟩ := k.2.2 i hi
  exact ⟨k1, by omega, k3.keep hg hD hD2 (fun j j1 j2 => hO j (by omega)) hC hv (by omega)⟩
theorem Ks.add {f : RH} {O : Nat → Od} {C : List CE} {L nv g hh m a b b' v : Nat} {D : List Nat} {wg V c e : Nat → Nat} (k : Ks f O C L D nv g hh wg m V c e a b) (hw : wg m ≤ hh) (hb : b ≤ b') (hab : a ≤ b) (hk : Kd f O C L D nv b b' g (hh - wg m) v) : Ks f O C L D nv g hh wg (m + 1) (up V m v) (up c (m + 1) b') (up e m b') a b' := by
  refine ⟨(up_ne _ _ (by omega)).trans k.1, up_at _ _ _, fun i hi => ?_⟩
  by_cases ei : i = m
  · subst ei
    rw [up_at, up_at, up_at, up_ne _ _ (by omega), k.2.1]
    exact ⟨⟨hab, hb, Nat.le_refl _, Nat.le_refl _⟩, hw, hk⟩
  · obtain ⟨k1, k2, k3⟩ := k.2.2 i (by omega)
    rw [up_ne c _ (by omega : ¬ i = m + 1), up_ne e _ ei, up_ne V _ ei, up_ne c _ (by omega : ¬ i + 1 = m + 1)]
    exact ⟨⟨k1.1, k1.2.1, k1.2.2.1, by omega⟩, k2, k3⟩
theorem Ks.bump {f : RH} {O : Nat → Od} {C : List CE} {L nv g hh m a b b' : Nat} {D : List Nat} {wg V c e : Nat → Nat} (k : Ks f O C L D nv g hh wg m V c e a b) (hm : 1 ≤ m) (hb : b ≤ b') : Ks f O C L D nv g hh wg m V (up c m b') e a b' := by
  refine ⟨(up_ne _ _ (by omega)).trans k.1, up_at _ _ _, fun i hi => ?_⟩
  obtain ⟨k1, k2, k3⟩ := k.2.2 i hi
  rw [up_ne c _ (by omega : ¬ i = m)]
  refine ⟨⟨k1.1, k1.2.1, ?_⟩, k2, k3⟩
  by_cases ei : i + 1 = m
  · rw [ei, up_at]
    have := k1.2.2
    rw [ei] at this
    omega
  · rw [up_ne c _ ei]; omega
/-- Nodes as they will be -/
theorem NsB.done {f f' : RH} {lo q a1 a2 a3 cap m H : Nat} {V : Nat → Nat} {S L : Nat → Int32} (h : NsB f lo q a1 a2 a3 cap m V S L) (hA : Ag lo H f f') (hH : f.1 ≤ H) (hb : H ≤ f'.2.2.2) (hm : m ≤ 1000) : nNs f' q m (fun k => .ref (V k)) ∧ nPs f' q m 169 S ∧ nPs f' q m 170 L := by
  obtain ⟨⟨h1, h2, h3, h4, h5, h6, h7, h8⟩, ⟨i1, i2, i3, i4, i5, i6⟩, ⟨j1, j2, j3, j4, j5, j6⟩, ⟨k1, k2, k3, k4, k5, k6⟩, hne, hk⟩ := h
  have q1 := hA q h4 (by omega) (by rw [h1.1]; intro z; cases z)
  have q2 := hA a1 i4 (by omega) (by rw [i5]; intro z; cases z)
  have q3 := hA a2 j4 (by omega) (by rw [j5]; intro z; cases z)
  have q4 := hA a3 k4 (by omega) (by rw [k5]; intro z; cases z)
  have n1 : ∀ j, vl f' q j = vl f q j := fun j => q1.2.2 j (fun z => by rw [h1.1] at z; cases z.1)
  have n2 : ∀ j, vl f' a1 j = vl f a1 j := fun j => q2.2.2 j (fun z => by rw [i5] at z; cases z.1)
  have n3 : ∀ j, vl f' a2 j = vl f a2 j := fun j => q3.2.2 j (fun z => by rw [j5] at z; cases z.1)
  have n4 : ∀ j, vl f' a3 j = vl f a3 j := fun j => q4.2.2 j (fun z => by rw [k5] at z; cases z.1)
  refine ⟨⟨by omega, ⟨q1.1.trans h1.1, q1.2.1.trans h1.2⟩, by rw [n1]; exact h5, hm, a1, by rw [n1]; exact i1, Nat.lt_of_lt_of_le i2 (Nat.le_trans hH hb), q2.1.trans i5, by rw [q2.2.1, i6]; exact h6, fun k hkm => by rw [n2]; exact (hk k hkm).1⟩, ⟨a2, by rw [n1]; exact j1, Nat.lt_of_lt_of_le j2 (Nat.le_trans hH hb), q3.1.trans j5, by rw [q3.2.1, j6]; exact h6, fun k hkm => by rw [n3]; exact (hk k hkm).2.2.1⟩, ⟨a3, by rw [n1]; exact k1, Nat.lt_of_lt_of_le k2 (Nat.le_trans hH hb), q4.1.trans k5, by rw [q4.2.1, k6]; exact h6, fun k hkm => by rw [n4]; exact (hk k hkm).2.2.2⟩⟩
