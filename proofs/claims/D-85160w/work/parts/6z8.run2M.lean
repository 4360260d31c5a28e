/-! THE MODEL: calls, what is under way -/
def mwy (s : MS) (W : Nat) (x1 x2 x3 x4 : Int32) : MS := sI (sA (sA (sA (sA (sA (sA s 137 W x1) 138 W x2) 139 W 0) 140 W x3) 141 W x4) 142 W (s.1 130)) 136 (nI (W + 1))
theorem mwy_ne (s : MS) (W : Nat) (x1 x2 x3 x4 : Int32) {j i : Nat} (h : j < 137 ∨ 142 < j ∨ i ≠ W) : (mwy s W x1 x2 x3 x4).2.2.1 j i = s.2.2.1 j i := by
  refine (sA_ne _ _ (fun e => ?_)).trans ((sA_ne _ _ (fun e => ?_)).trans ((sA_ne _ _ (fun e => ?_)).trans ((sA_ne _ _ (fun e => ?_)).trans ((sA_ne _ _ (fun e => ?_)).trans (sA_ne _ _ (fun e => ?_)))))) <;> (have := e.1; have := e.2; omega)
theorem mwy_fr (s : MS) (W : Nat) (x1 x2 x3 x4 : Int32) : mfR s (mwy s W x1 x2 x3 x4) :=
  (((((((mfR.sA s x1).trans (mfR.sA _ x2)).trans (mfR.sA _ 0)).trans (mfR.sA _ x3)).trans (mfR.sA _ x4)).trans (mfR.sA _ _)).trans (mfR.sI _ 136 _))
theorem mPs.way {s : MS} {b W : Nat} {x1 x2 x3 x4 : Int32} {pl : List Th} (h : mPs s b pl) : mPs (mwy s W x1 x2 x3 x4) b pl :=
  mPs.mono (s := s) (s' := mwy s W x1 x2 x3 x4) (Nat.le_refl b) (fun a _ => mwy_ne s W x1 x2 x3 x4 (Or.inl (by decide))) pl (fun i _ => ⟨mwy_ne s W x1 x2 x3 x4 (Or.inl (by decide)), mwy_ne s W x1 x2 x3 x4 (Or.inl (by decide))⟩) h
section MW
variable {l : Launch} {E : EN} {w : MO} {d : Nat} {Q : Option Value → MS → Prop} {fuel : Nat} {s0 s s' : MS} {b b' : Nat} {fr : List Fm} {wy : List Wy} {sh : Nat → Option Th} {st dp tk : Nat} {out : List Int32}
theorem mBz.way (h : mBz fuel s0 b fr wy sh st dp tk out s) {x1 x2 x3 x4 : Int32} (q : Wy) (h1 : x1 = nI q.1) (h5 : q.1 < 5) (hb : q.2.2.2.1 = 0) (he : q.2.2.2.2.2.2.1 = fr.length) (h2 : q.1 = 2 → x2 = nI q.2.2.1 ∧ x3 = q.2.2.2.2.2.2.2 ∧ x4 = nI q.2.2.2.2.2.1) (hn2 : ¬ q.1 = 2 → mWt (s.2.2.1 104) b x2 q.2.1 ∧ x3 = nI q.2.2.2.2.1 ∧ (¬ q.1 = 1 → x4 = nI q.2.2.2.2.2.1)) : mBz fuel s0 b fr (q :: wy) sh st dp tk out (mwy s wy.length x1 x2 x3 x4) := by
  obtain ⟨g1, g2, g3, g4, g5, g6, g7, g8, g9, g10⟩ := h
  have hne : ∀ j i, j < 137 ∨ 142 < j ∨ i ≠ wy.length → (mwy s wy.length x1 x2 x3 x4).2.2.1 j i = s.2.2.1 j i := fun j i z => mwy_ne s wy.length x1 x2 x3 x4 z
  refine ⟨mFrs.mono (s := s) (s' := mwy s wy.length x1 x2 x3 x4) (Nat.le_refl b) (fun a _ => hne _ _ (Or.inl (by decide))) fr (fun j hj i _ => hne _ _ (Or.inl (by omega))) (fun j hj i _ => hne _ _ (Or.inl (by omega))) g1, g2, ⟨?_, mWys.mono (s := s) (s' := mwy s wy.length x1 x2 x3 x4) (Nat.le_refl b) (fun a _ => hne _ _ (Or.inl (by decide))) wy (fun j _ _ i hi => hne _ _ (Or.inr (Or.inr (by omega)))) g3⟩, rfl, fun i hi => ?_, g6, g7, ⟨g8.1, fun i a1 a2 => by rw [hne 143 i (by omega)]; exact g8.2 i a1 a2⟩, ⟨g9.1, by rw [hne 104 _ (by omega)]; exact g9.2.1, by rw [hne 104 _ (by omega)]; exact g9.2.2⟩, g10.trans (mwy_fr s _ _ _ _ _)⟩
  · have e7 : (mwy s wy.length x1 x2 x3 x4).2.2.1 137 wy.length = x1 := by simp [mwy, sI, sA]
    have e8 : (mwy s wy.length x1 x2 x3 x4).2.2.1 138 wy.length = x2 := by simp [mwy, sI, sA]
    have e9 : (mwy s wy.length x1 x2 x3 x4).2.2.1 139 wy.length = 0 := by simp [mwy, sI, sA]
    have e0 : (mwy s wy.length x1 x2 x3 x4).2.2.1 140 wy.length = x3 := by simp [mwy, sI, sA]
    have e1 : (mwy s wy.length x1 x2 x3 x4).2.2.1 141 wy.length = x4 := by simp [mwy, sI, sA]
    have e2 : (mwy s wy.length x1 x2 x3 x4).2.2.1 142 wy.length = s.1 130 := by simp [mwy, sI, sA]
    have e4 : (mwy s wy.length x1 x2 x3 x4).2.2.1 104 = s.2.2.1 104 := by funext i; exact hne _ _ (Or.inl (by decide))
    unfold mWy
    rw [e7, e8, e9, e0, e1, e2, e4, g2, hb, he]
    exact ⟨h1, rfl, rfl, h5, h2, hn2⟩
  · rw [hne 128 _ (by omega), hne 129 _ (by omega)]
    have e4 : (mwy s wy.length x1 x2 x3 x4).2.2.1 104 = s.2.2.1 104 := by funext i; exact hne _ _ (Or.inl (by decide))
    rw [e4]
    exact g5 i hi
/-- the count of what is under way -/
theorem mBz.setb {q : Wy} (h : mBz fuel s0 b fr (q :: wy) sh st dp tk out s) (B : Nat) : mBz fuel s0 b fr ((q.1, q.2.1, q.2.2.1, B, q.2.2.2.2) :: wy) sh st dp tk out (sA s 139 wy.length (nI B)) := by
  obtain ⟨g1, g2, g3, g4, g5, g6, g7, g8, g9, g10⟩ := h
  have hne : ∀ j i, j ≠ 139 ∨ i ≠ wy.length → (sA s 139 wy.length (nI B)).2.2.1 j i = s.2.2.1 j i := fun j i z => sA_ne s _ (fun e => by have := e.1; have := e.2; omega)
  have e4 : (sA s 139 wy.length (nI B)).2.2.1 104 = s.2.2.1 104 := rfl
  refine ⟨mFrs.mono (s := s) (s' := sA s 139 wy.length (nI B)) (Nat.le_refl b) (fun a _ => rfl) fr (fun j hj i _ => hne _ _ (Or.inl (by omega))) (fun j hj i _ => hne _ _ (Or.inl (by omega))) g1, g2, ⟨?_, mWys.mono (s := s) (s' := sA s 139 wy.length (nI B)) (Nat.le_refl b) (fun a _ => rfl) wy (fun j _ _ i hi => hne _ _ (Or.inr (by omega))) g3.2⟩, g4, g5, g6, g7, g8, g9, g10.trans (mfR.sA s _)⟩
  obtain ⟨k1, k2, k3, k4, k5, k6⟩ := g3.1
  refine ⟨k1, ?_, k3, k4, k5, k6⟩
  show (if 139 = 139 ∧ wy.length = wy.length then nI B else _) = nI B
  rw [if_pos ⟨rfl, rfl⟩]
theorem mPs.setb {pl : List Th} {W : Nat} {v : Int32} (h : mPs s b pl) : mPs (sA s 139 W v) b pl := mPs.mono (s := s) (s' := sA s 139 W v) (Nat.le_refl b) (fun a _ => rfl) pl (fun i _ => ⟨rfl, rfl⟩) h
theorem mBz.wdrop (h : mBz fuel s0 b fr wy sh st dp tk out s) (k : Nat) (hk : k ≤ wy.length) : mBz fuel s0 b fr (wy.drop (wy.length - k)) sh st dp tk out (sI s 136 (nI k)) := by
  obtain ⟨g1, g2, g3, g4, g5, g6, g7, g8, g9, g10⟩ := h
  refine ⟨g1.si, g2, (mWys.drop _ wy g3).si, ?_, g5, g6, g7, g8, g9, g10.trans (mfR.sI s 136 _)⟩
  rw [List.length_drop, show wy.length - (wy.length - k) = k by omega]; rfl
theorem mBz.fdrop (h : mBz fuel s0 b fr wy sh st dp tk out s) (k : Nat) (hk : k ≤ fr.length) : mBz fuel s0 b (fr.drop (fr.length - k)) wy sh st dp tk out (sI s 130 (nI k)) := by
  obtain ⟨g1, g2, g3, g4, g5, g6, g7, g8, g9, g10⟩ := h
  refine ⟨(mFrs.drop _ fr g1).si, ?_, g3.si, g4, g5, g6, g7, g8, g9, g10.trans (mfR.sI s 130 _)⟩
  rw [List.length_drop, show fr.length - (fr.length - k) = k by omega]; rfl
theorem M_way (hst : l.stackTraces = false) {W : Nat} (hW : s.1 136 = nI W) (hW4 : W < 400) {x1 x2 x3 x4 : Int32} (hQ : Q none (mwy s W x1 x2 x3 x4)) : EvM l E w d MX10_way [.ref w.1, .int x1, .int x2, .int x3, .int x4] s Q := by
  refine eX10_way hst ?_
  rw [hW, nI_clamp (by omega), nI_1]
  exact ⟨inB_n hW4, inB_n hW4, inB_n hW4, inB_n hW4, inB_n hW4, inB_n hW4, hQ⟩
/-- a call's variables by now -/
def mEn (b D v : Nat) (args : List Th) (s sv : MS) : Prop := sv.1 = s.1 ∧ sv.2.1 = s.2.1 ∧ sv.2.2.2 = s.2.2.2 ∧ (∀ j, j ≠ 134 → j ≠ 135 → sv.2.2.1 j = s.2.2.1 j) ∧ (∀ j i, i < 14 * D → sv.2.2.1 j i = s.2.2.1 j i) ∧ ∀ u, u < v → mVar (s.2.2.1 104) b (sv.2.2.1 134 (14 * D + u)) (sv.2.2.1 135 (14 * D + u)) (avars args u)
theorem mEn.next {D v : Nat} {args : List Th} {sv : MS} {k x : Int32} (h : mEn b D v args s sv) (hx : mVar (s.2.2.1 104) b k x (avars args v)) : mEn b D (v + 1) args s (sA (sA sv 134 (14 * D + v) k) 135 (14 * D + v) x) := by
  obtain ⟨h1, h2, h3, h4, h5, h6⟩ := h
  refine ⟨h1, h2, h3, fun j a1 a2 => ?_, fun j i hi => ?_, fun u hu => ?_⟩
  · rw [← h4 j a1 a2]
    funext i
    exact (sA_ne _ x (fun e => a2 e.1)).trans (sA_ne sv k (fun e => a1 e.1))
  · rw [← h5 j i hi]
    exact (sA_ne _ x (fun e => by have := e.2; omega)).trans (sA_ne sv k (fun e => by have := e.2; omega))
  · show mVar _ b (if 134 = 135 ∧ 14 * D + u = 14 * D + v then x else if 134 = 134 ∧ 14 * D + u = 14 * D + v then k else sv.2.2.1 134 (14 * D + u)) (if 135 = 135 ∧ 14 * D + u = 14 * D + v then x else if 135 = 134 ∧ 14 * D + u = 14 * D + v then k else sv.2.2.1 135 (14 * D + u)) _
    by_cases e : u = v
    · subst e
      rw [if_neg (fun z => absurd z.1 (by decide)), if_pos ⟨rfl, rfl⟩, if_pos ⟨rfl, rfl⟩]
      exact hx
    · rw [if_neg (fun z => e (by have := z.2; omega)), if_neg (fun z => e (by have := z.2; omega)), if_neg (fun z => e (by have := z.2; omega)), if_neg (fun z => e (by have := z.2; omega))]
      exact h6 u (by omega)
theorem M_enters (hst : l.stackTraces = false) {pc f fpc bk : Nat} {args rest : List Th} {x3 : Int32} {ct : Ct} (hS : mS fuel s0 pc (args.reverse ++ rest) fr wy sh ct out s) (hp : args.length + rest.length ≤ 8900) (hw : ∀ t ∈ args, ZW t) (hf : f < 24) (h77 : s.2.2.1 77 f = nI fpc) (hbk : ¬ fr.length = 0 → x3 = nI bk) (hfr : fr.length < 10)
    (hQ : ∀ s', mS fuel s0 fpc rest ((avars args, rest.length, bk, wy.length) :: fr) wy sh (ct.1, ct.2.1, max ct.2.2.1 (fr.length + 1), ct.2.2.2) out s' → Q none s') : EvM l E w (d + 1) MX10_enters [.ref w.1, .int (nI f), .int (nI args.length), .int x3] s Q := by
  obtain ⟨b, hB, hP, h105, h108, h119, hb, h123, h124, h126⟩ := hS
  have h130 := hB.2.1
  have h136 := hB.2.2.2.1
  have h120 := hB.2.2.2.2.2.2.1
  rw [List.length_append, List.length_reverse] at h108
  refine eX10_enters hst ?_
  rw [h130]
  refine bn_eq fr.length 10 (fun _ y1 e1 => ?_) (fun c => by omega) rfl rfl
  have e1 : y1 = nI rest.length := by
    rw [e1, h108, show args.length + rest.length = rest.length + args.length by omega, pk_sub (by omega)]
    congr 1
    omega
  subst e1
  have hend : ∀ sv, mEn b fr.length 14 args s sv → ExM l E w (d + 1) MX10_enters 31 [some (.ref w.1), some (.int (nI f)), some (.int (nI args.length)), some (.int x3), some (.int (nI rest.length)), some (.int (nI 14))] [] sv Q := by
    intro sv hv
    obtain ⟨v1, v2, v3, v4, v5, v6⟩ := hv
    refine vX10_enters_31 (pk_le 14 14 (fun _ => ?_) (fun c => by omega) rfl rfl)
    rw [v1, h130, h136, nI_clamp (by omega), nI_1, h120.1]
    have h77' : sv.2.2.1 77 f = nI fpc := by rw [v4 77 (by decide) (by decide)]; exact h77
    have key : ∀ m, m = max ct.2.2.1 (fr.length + 1) → mS fuel s0 fpc rest ((avars args, rest.length, bk, wy.length) :: fr) wy sh (ct.1, ct.2.1, max ct.2.2.1 (fr.length + 1), ct.2.2.2) out (sI (sI (sI (sA (sA (sA (sI sv 108 (nI rest.length)) 131 fr.length (nI rest.length)) 132 fr.length x3) 133 fr.length (nI wy.length)) 130 (nI (fr.length + 1))) 120 (nI m)) 126 (nI fpc)) := by
      intro m em
      generalize hs' : (sI (sI (sI (sA (sA (sA (sI sv 108 (nI rest.length)) 131 fr.length (nI rest.length)) 132 fr.length x3) 133 fr.length (nI wy.length)) 130 (nI (fr.length + 1))) 120 (nI m)) 126 (nI fpc)) = s'
      have i0 : ∀ j, j ≠ 108 → j ≠ 130 → j ≠ 120 → j ≠ 126 → s'.1 j = s.1 j := by
        intro j a1 a2 a3 a4
        rw [← hs', ← v1]
        exact (sI_ne _ _ a4).trans ((sI_ne _ _ a3).trans ((sI_ne _ _ a2).trans (sI_ne sv _ a1)))
      have a0 : ∀ j i, (j ≠ 131 ∧ j ≠ 132 ∧ j ≠ 133) ∨ i ≠ fr.length → s'.2.2.1 j i = sv.2.2.1 j i := by
        intro j i hz
        rw [← hs']
        exact (sA_ne _ _ (fun e => by have := e.1; have := e.2; omega)).trans ((sA_ne _ _ (fun e => by have := e.1; have := e.2; omega)).trans (sA_ne (sI sv 108 (nI rest.length)) _ (fun e => by have := e.1; have := e.2; omega)))
      have a1 : ∀ j i, j ≠ 131 → j ≠ 132 → j ≠ 133 → j ≠ 134 → j ≠ 135 → s'.2.2.1 j i = s.2.2.1 j i := fun j i z1 z2 z3 z4 z5 => by
        rw [a0 j i (Or.inl ⟨z1, z2, z3⟩), v4 j z4 z5]
      have hc : ∀ a, a < b → s'.2.2.1 104 a = s.2.2.1 104 a := fun a _ => a1 104 a (by decide) (by decide) (by decide) (by decide) (by decide)
      have e104 : s'.2.2.1 104 = s.2.2.1 104 := by funext a; exact a1 104 a (by decide) (by decide) (by decide) (by decide) (by decide)
      obtain ⟨g1, g2, g3, g4, g5, g6, g7, g8, g9, g10⟩ := hB
      refine ⟨b, ⟨⟨?_, mFrs.mono (s := s) (s' := s') (Nat.le_refl b) hc fr (fun j hj i hi => ?_) (fun j hj i hi => ?_) g1⟩, ?_, mWys.mono (s := s) (s' := s') (Nat.le_refl b) hc wy (fun j _ _ i _ => a1 j i (by omega) (by omega) (by omega) (by omega) (by omega)) g3, ?_, fun i hi => ?_, ?_, ⟨?_, ?_, ?_⟩, ⟨?_, fun i z1 z2 => ?_⟩, ?_, ?_⟩, mPs.mono (s := s) (s' := s') (Nat.le_refl b) hc rest (fun i _ => ⟨a1 106 i (by decide) (by decide) (by decide) (by decide) (by decide), a1 107 i (by decide) (by decide) (by decide) (by decide) (by decide)⟩) (mPs.tl _ _ hP), ?_, ?_, ?_, hb, ?_, ?_, fun _ => ?_⟩
      · refine ⟨?_, ?_, fun c => ?_, fun v hv => ?_⟩
        · rw [← hs']; simp [sI, sA]
        · rw [← hs']; simp [sI, sA]
        · rw [← hbk c, ← hs']; simp [sI, sA]
        · rw [a0 134 _ (Or.inl (by decide)), a0 135 _ (Or.inl (by decide)), e104]
          exact v6 v hv
      · rw [a0 j i (Or.inr (by omega)), v5 j i (by omega)]
      · rw [a0 j i (Or.inl (by omega)), v5 j i hi]
      · rw [← hs']; rfl
      · rw [i0 136 (by decide) (by decide) (by decide) (by decide)]; exact g4
      · rw [a1 128 i (by decide) (by decide) (by decide) (by decide) (by decide), a1 129 i (by decide) (by decide) (by decide) (by decide) (by decide), e104]
        exact g5 i hi
      · rw [i0 117 (by decide) (by decide) (by decide) (by decide), i0 118 (by decide) (by decide) (by decide) (by decide)]; exact g6
      · rw [← hs', em]; rfl
      · show max ct.2.2.1 (fr.length + 1) ≤ 10
        have := g7.2.1
        omega
      · rw [i0 121 (by decide) (by decide) (by decide) (by decide)]; exact g7.2.2
      · rw [i0 144 (by decide) (by decide) (by decide) (by decide)]; exact g8.1
      · rw [a1 143 i (by decide) (by decide) (by decide) (by decide) (by decide)]; exact g8.2 i z1 z2
      · exact ⟨g9.1, by rw [e104]; exact g9.2.1, by rw [e104]; exact g9.2.2⟩
      · refine g10.trans ⟨fun j hj => i0 j (fun z => hj (by rw [z]; decide)) (fun z => hj (by rw [z]; decide)) (fun z => hj (by rw [z]; decide)) (fun z => hj (by rw [z]; decide)), ?_, ?_, fun i _ => by rw [e104], fun j hj => ?_⟩
        · rw [← hs', ← v2]; rfl
        · rw [← hs', ← v3]; rfl
        · funext i
          exact a1 j i (fun z => hj (by rw [z]; decide)) (fun z => hj (by rw [z]; decide)) (fun z => hj (by rw [z]; decide)) (fun z => hj (by rw [z]; decide)) (fun z => hj (by rw [z]; decide))
      · rw [i0 105 (by decide) (by decide) (by decide) (by decide)]; exact h105
      · rw [← hs']; rfl
      · rw [i0 119 (by decide) (by decide) (by decide) (by decide)]; exact h119
      · rw [i0 123 (by decide) (by decide) (by decide) (by decide)]; exact h123
      · rw [i0 124 (by decide) (by decide) (by decide) (by decide)]; exact h124
      · rw [← hs']; rfl
    have h10 := h120.2.1
    rw [nI_clamp (by omega), h77']
    refine ⟨inB_n hfr, inB_n hfr, inB_n hfr, pk_le (fr.length + 1) ct.2.2.1 (fun c => ⟨inB_n hf, hQ _ (key _ (by omega))⟩) (fun c => ⟨inB_n hf, hQ _ (key _ (by omega))⟩) rfl rfl⟩
  have main : ∀ m v sv, v + m = 14 → mEn b fr.length v args s sv → ExM l E w (d + 1) MX10_enters 31 [some (.ref w.1), some (.int (nI f)), some (.int (nI args.length)), some (.int x3), some (.int (nI rest.length)), some (.int (nI v))] [] sv Q := by
    intro m
    induction m with
    | zero =>
      intro v sv hv h
      have hv : v = 14 := hv
      subst hv
      exact hend sv h
    | succ m ih =>
      intro v sv hv h
      have hix : 14 * nI fr.length + nI v = nI (14 * fr.length + v) := by
        rw [show (14 : Int32) = nI 14 from rfl, pk_mul, nI_add]
      have hr : nI rest.length + nI v = nI (rest.length + v) := nI_add _ _
      refine vX10_enters_31 (pk_le 14 v (fun c => by omega) (fun _ => ?_) rfl rfl)
      rw [h.1, h130, hix, nI_clamp (by omega), hr, nI_1]
      by_cases c : args.length ≤ v
      · have hx : mVar (s.2.2.1 104) b 2 0 (avars args v) := by
          unfold avars
          rw [List.getElem?_eq_none c]
          exact rfl
        refine pk_le args.length v (fun _ => ⟨inB_n (by omega), pk_le args.length v (fun _ => ⟨inB_n (by omega), ih (v + 1) _ (by omega) (h.next hx)⟩) (fun c2 => by omega) rfl rfl⟩) (fun c2 => by omega) rfl rfl
      · have e106 := h.2.2.2.1 106 (by decide) (by decide)
        have e107 := h.2.2.2.1 107 (by decide) (by decide)
        have hx : mVar (s.2.2.1 104) b (s.2.2.1 106 (rest.length + v)) (s.2.2.1 107 (rest.length + v)) (avars args v) := by
          have := hP.args v (by omega)
          unfold avars
          rw [getD_lt _ (by omega)] at this
          rw [List.getElem?_eq_getElem (by omega)]
          exact ⟨this, hw _ (List.getElem_mem _)⟩
        rw [nI_clamp (by omega), e106, e107]
        refine pk_le args.length v (fun c2 => by omega) (fun _ => ⟨inB_n (by omega), inB_n (by omega), pk_le args.length v (fun c2 => by omega) (fun _ => ⟨inB_n (by omega), inB_n (by omega), ih (v + 1) _ (by omega) (h.next hx)⟩) rfl rfl⟩) rfl rfl
  exact main 14 0 s rfl ⟨rfl, rfl, rfl, fun _ _ _ => rfl, fun _ _ _ => rfl, fun u hu => absurd hu (Nat.not_lt_zero u)⟩
end MW
