/-! THE READER: words, signs -/
theorem strR.cg {E : EN} {f f' : RH} {a : Nat} {bs : List Nat} (h : strR E f a bs) (hl : f.2.2.2 ≤ f'.2.2.2) (hc : ∀ a, a < f.2.2.2 → f'.2.2.1 a = f.2.2.1 a) : strR E f' a bs := by
  obtain ⟨q, t, ⟨h1, h2⟩, h3, h4, h5, h6, h7, h8, h9, h10, h11⟩ := h
  have ca := cellE (hc a h1)
  have cq := cellE (hc q h2)
  exact ⟨q, t, ⟨Nat.lt_of_lt_of_le h1 hl, Nat.lt_of_lt_of_le h2 hl⟩, ocE (hc a h1) h3, by rw [ca.2.2]; exact h4, by rw [ca.2.2]; exact h5, h6, by rw [cq.1]; exact h7, by rw [cq.2.1]; exact h8, h9, fun i hi => by rw [cq.2.2]; exact h10 i hi, h11⟩
/-- what the reader finds that never changes -/
def cKc (E : EN) (f : RH) : Prop := strR E f (eSC E 52) sgL ∧ isR (eSV E 6) = true ∧
  (∃ a : Nat, eSV E 0 = .ref a ∧ a < f.2.2.2 ∧ tg f a = some (.inr 10) ∧ ln f a = 30 ∧ ∀ k, k < 30 → ∃ b, vl f a k = .ref b ∧ strR E f b (wbL.getD (11 + k) [])) ∧
  (∃ a : Nat, eSV E 1 = .ref a ∧ a < f.2.2.2 ∧ tg f a = some (.inr 0) ∧ ln f a = 30 ∧ ∀ k, k < 28 → vl f a k = .int (nI (pmst k))) ∧
  (∃ a : Nat, eSV E 2 = .ref a ∧ a < f.2.2.2 ∧ tg f a = some (.inr 10) ∧ ln f a = 11 ∧ ∀ k, k < 11 → ∃ b, vl f a k = .ref b ∧ strR E f b (wbL.getD k [])) ∧
  ∀ q ∈ [(41, 0), (42, 1), (43, 3), (44, 4), (45, 6), (46, 7), (47, 8), (48, 9), (49, 2), (50, 5), (51, 10)], strR E f (eSC E q.1) (wbL.getD q.2 [])
theorem cKc.cg {E : EN} {f f' : RH} (h : cKc E f) (hl : f.2.2.2 ≤ f'.2.2.2) (hc : ∀ a, a < f.2.2.2 → f'.2.2.1 a = f.2.2.1 a) : cKc E f' := by
  obtain ⟨h1, h2, ⟨a, a1, a2, a3, a4, a5⟩, ⟨b, b1, b2, b3, b4, b5⟩, ⟨c, c1, c2, c3, c4, c5⟩, h6⟩ := h
  have ca := cellE (hc a a2)
  have cb := cellE (hc b b2)
  have cc := cellE (hc c c2)
  refine ⟨h1.cg hl hc, h2, ⟨a, a1, Nat.lt_of_lt_of_le a2 hl, by rw [ca.1]; exact a3, by rw [ca.2.1]; exact a4, fun k hk => ?_⟩, ⟨b, b1, Nat.lt_of_lt_of_le b2 hl, by rw [cb.1]; exact b3, by rw [cb.2.1]; exact b4, fun k hk => by rw [cb.2.2]; exact b5 k hk⟩, ⟨c, c1, Nat.lt_of_lt_of_le c2 hl, by rw [cc.1]; exact c3, by rw [cc.2.1]; exact c4, fun k hk => ?_⟩, fun q hq => (h6 q hq).cg hl hc⟩
  · obtain ⟨x, x1, x2⟩ := a5 k hk
    exact ⟨x, by rw [ca.2.2]; exact x1, x2.cg hl hc⟩
  · obtain ⟨x, x1, x2⟩ := c5 k hk
    exact ⟨x, by rw [cc.2.2]; exact x1, x2.cg hl hc⟩
theorem cKc.ge {E : EN} {f f' : RH} {D : List Nat} (h : cKc E f) (hg : gE D f f') (hD : ∀ a ∈ D, f.2.2.2 ≤ a) (hb : f.2.2.2 ≤ f.1) : cKc E f' := h.cg (by rw [hg.2.1]; exact Nat.le_refl _) (fun a ha => hg.ce (a := a) (by omega) (fun z => by have := hD a z; omega))
theorem cKc.geZ {E : EN} {f f' : RH} {D : List Nat} (h : cKc E f) (hg : gZ D f f') (hD : ∀ a ∈ D, f.2.2.2 ≤ a) (hb : f.2.2.2 ≤ f.1) : cKc E f' := h.cg (by rw [hg.2.1]; exact Nat.le_refl _) (fun a ha => hg.ce (a := a) (by omega) (fun z => by have := hD a z; omega))
theorem wdL_nd : ∀ i j : Fin 41, wdL.getD i.val 0 = wdL.getD j.val 0 → i = j := by decide +kernel
theorem kw_iff {t : Tok} {k : Nat} (hk : k < 41) : (t.1 = 1 ∧ t.2.2.1 = wdL.getD k 0) ↔ kw t = k := by
  unfold kw
  constructor
  · intro h
    rw [if_pos h.1]
    obtain ⟨g1, g2, g3⟩ := kwF_is t.2.2.1 41 (Nat.le_refl _)
    by_cases e : kwF t.2.2.1 41 = 41
    · exact absurd h.2.symm (g3 e k (by omega) hk)
    · have hlt : kwF t.2.2.1 41 < 41 := by omega
      have := wdL_nd ⟨_, hlt⟩ ⟨k, hk⟩ ((g2 hlt).2.trans h.2)
      exact congrArg Fin.val this
  · intro h
    split at h
    · rename_i h1
      exact ⟨h1, by rw [← h]; exact ((kwF_is t.2.2.1 41 (Nat.le_refl _)).2.1 (by omega)).2.symm⟩
    · omega
theorem dec_iff {A B : Prop} [Decidable A] [Decidable B] (h : A ↔ B) : decide A = decide B := by
  by_cases a : A
  · rw [decide_eq_true a, decide_eq_true (h.mp a)]
  · rw [decide_eq_false a, decide_eq_false (fun z => a (h.mpr z))]
section RD
variable {l : Launch} {E : EN} {w : CO} {d : Nat} {s : CS} {f : RH} {Q : KO → CS → RH → Prop} {ch : Nat → Nat} {n p o x0 : Nat}
theorem C_isW (hst : l.stackTraces = false) {a k : Nat} (h : cSc ch n p o s) (hk : k < 41) (hs : strR E f a (wbL.getD k [])) (h6 : isR (eSV E 6) = true) (hQ : Q (.inl (some (.int (bI (decide (kw (tk ch n p) = k)))))) s f) : EvC l E w (d + 5) MX2_isWord [.ref (w.1 2), .ref a] s f Q := by
  refine C_isWord hst h.2.1.1 h.1 h.2.1.2.1 hk hs h6 ?_
  rw [dec_iff (kw_iff hk)]; exact hQ
/-- what builtIn answers -/
def kbI (t : Tok) : Int32 := if 11 ≤ kw t ∧ kw t < 41 then nI (kw t - 11) else -1
theorem R_builtIn (hst : l.stackTraces = false) (h : cSc ch n p o s) (hc : cKc E f) (hx : oc f x0 11) (hx2 : vl f x0 147 = .ref (w.1 2)) (hQ : Q (.inl (some (.int (kbI (tk ch n p))))) s f) : EvC l E w (d + 6) MX11_builtIn [.ref x0] s f Q := by
  obtain ⟨-, h6, ⟨a, a1, a2, a3, a4, a5⟩, -⟩ := hc
  refine eR11_builtIn hst ?_
  have main : ∀ m i, 30 - i ≤ m → i ≤ 30 → ExC l E w (d + 6) MX11_builtIn 4 [some (.ref x0), some (.int (if 11 ≤ kw (tk ch n p) ∧ kw (tk ch n p) < 11 + i then nI (kw (tk ch n p) - 11) else -1)), some (.int (nI i))] [] s f Q := by
    intro m
    induction m with
    | zero =>
      intro i hm hi
      have ei : i = 30 := by omega
      subst ei
      refine vR11_builtIn_4 ⟨a, a1, 10, a3, ?_⟩
      rw [a4]
      exact pk_le 30 30 (fun _ => hQ) (fun z => absurd z (by omega)) rfl rfl
    | succ m ih =>
      intro i hm hi
      by_cases ei : i = 30
      · exact ih i (by omega) hi
      obtain ⟨b, b1, b2⟩ := a5 i (by omega)
      refine vR11_builtIn_4 ⟨a, a1, 10, a3, ?_⟩
      rw [a4]
      refine pk_le 30 i (fun z => absurd z (by omega)) (fun _ => ⟨hx, hx2, a, a1, 10, by decide, a3, inB_n (by omega), b, by rw [nI_clamp (by omega)]; exact b1, C_isW hst h (by omega) b2 h6 ⟨_, rfl, ?_⟩⟩) rfl rfl
      rw [← nI_succ]
      have ih := ih (i + 1) (by omega) (by omega)
      refine pk_b (fun z => ?_) (fun z => ?_)
      · have e : (if 11 ≤ kw (tk ch n p) ∧ kw (tk ch n p) < 11 + (i + 1) then nI (kw (tk ch n p) - 11) else -1) = (if 11 ≤ kw (tk ch n p) ∧ kw (tk ch n p) < 11 + i then nI (kw (tk ch n p) - 11) else (-1 : Int32)) := by
          by_cases c : 11 ≤ kw (tk ch n p) ∧ kw (tk ch n p) < 11 + i
          · rw [if_pos c, if_pos (by omega)]
          · rw [if_neg c, if_neg (by omega)]
        rw [e] at ih; exact ih
      · rw [if_pos (by omega), show kw (tk ch n p) - 11 = i by omega] at ih
        exact ih
  have := main _ 0 (Nat.le_refl _) (by decide)
  rw [if_neg (by omega)] at this
  exact this
theorem kbI_lt {t : Tok} {A B : Prop} (f : kw t < 11 ∨ 41 ≤ kw t → A) (g : 11 ≤ kw t → kw t < 41 → B) : (kbI t < 0 → A) ∧ (¬ kbI t < 0 → B) := by
  unfold kbI
  split
  · rename_i c; exact ⟨fun z => absurd z (nI_pos (by omega)), fun _ => g c.1 c.2⟩
  · exact ⟨fun _ => f (by omega), fun z => absurd (by decide) z⟩
theorem kbI_ge {t : Tok} {A B : Prop} (g : 11 ≤ kw t → kw t < 41 → B) (f : kw t < 11 ∨ 41 ≤ kw t → A) : (0 ≤ kbI t → B) ∧ (¬ 0 ≤ kbI t → A) := by
  unfold kbI
  split
  · rename_i c; exact ⟨fun _ => g c.1 c.2, fun z => absurd (nI_pos' (by omega)) z⟩
  · exact ⟨fun z => absurd z (by decide), fun _ => f (by omega)⟩
theorem R_isReserved (hst : l.stackTraces = false) (h : cSc ch n p o s) (hc : cKc E f) (hx : oc f x0 11) (hx2 : vl f x0 147 = .ref (w.1 2)) (hQ : Q (.inl (some (.int (bI (decide (kw (tk ch n p) < 41)))))) s f) : EvC l E w (d + 7) MX11_isReserved [.ref x0] s f Q := by
  obtain ⟨-, h6, -, -, ⟨a, a1, a2, a3, a4, a5⟩, -⟩ := id hc
  refine eR11_isReserved hst ?_
  have main : ∀ m i, 11 - i ≤ m → i ≤ 11 → ExC l E w (d + 7) MX11_isReserved 4 [some (.ref x0), some (.int (bI (decide (kw (tk ch n p) < i)))), some (.int (nI i))] [] s f Q := by
    intro m
    induction m with
    | zero =>
      intro i hm hi
      have ei : i = 11 := by omega
      subst ei
      refine vR11_isReserved_4 ⟨a, a1, 10, a3, ?_⟩
      rw [a4]
      refine pk_le 11 11 (fun _ => bn_b (fun z => ⟨hx, R_builtIn hst h hc hx hx2 ⟨_, rfl, kbI_lt (fun y => ?_) (fun y1 y2 => ?_)⟩⟩) (fun z => ?_)) (fun z => absurd z (by omega)) rfl rfl
      · rw [decide_eq_false (by omega)] at hQ; exact hQ
      · rw [decide_eq_true y2] at hQ; exact hQ
      · rw [decide_eq_true (by omega)] at hQ; exact hQ
    | succ m ih =>
      intro i hm hi
      by_cases ei : i = 11
      · exact ih i (by omega) hi
      obtain ⟨b, b1, b2⟩ := a5 i (by omega)
      have ih := ih (i + 1) (by omega) (by omega)
      refine vR11_isReserved_4 ⟨a, a1, 10, a3, ?_⟩
      rw [a4]
      refine pk_le 11 i (fun z => absurd z (by omega)) (fun _ => bn_b (fun z => ⟨hx, hx2, a, a1, 10, by decide, a3, inB_n (by omega), b, by rw [nI_clamp (by omega)]; exact b1, C_isW hst h (by omega) b2 h6 ⟨_, rfl, ?_⟩⟩) (fun z => ?_)) rfl rfl
      · rw [← nI_succ]
        refine pk_b (fun y => ?_) (fun y => ?_)
        · rw [decide_eq_false (by omega)] at ih; exact ih
        · rw [decide_eq_true (by omega)] at ih; exact ih
      · rw [← nI_succ]
        rw [decide_eq_true (by omega)] at ih; exact ih
  have := main _ 0 (Nat.le_refl _) (by decide)
  rw [decide_eq_false (by omega)] at this
  exact this
theorem R_wantName (hst : l.stackTraces = false) (h : cSc ch n p o s) (hc : cKc E f) (hx : oc f x0 11) (hx2 : vl f x0 147 = .ref (w.1 2)) (hno : ¬ ((tk ch n p).1 = 1 ∧ kw (tk ch n p) = 41) → ∀ s', cFl s s' 2 (tk ch n p).2.1 → Q (.inr 1) s' f) (hok : (tk ch n p).1 = 1 → kw (tk ch n p) = 41 → Q (.inl none) s f) : EvC l E w (d + 8) MX11_wantName [.ref x0] s f Q := by
  have ht := h.tk
  have h14 := ht.1.1
  have hk := kw_le (tk ch n p)
  have fl : cFl s (uI (uI s 14 2) 15 (s.1 21)) 2 (tk ch n p).2.1 := ⟨(cfP.uI _ 14 _).trans (cfP.uI _ 15 _), rfl, h.2.1.1.2.1⟩
  refine eR11_wantName hst ⟨hx, hx2, bn_eq (tk ch n p).1 1 (fun z => ⟨hx, hx2, hx, hx2, ?_⟩) (fun z => ⟨hx, R_isReserved hst h hc hx hx2 ⟨_, rfl, pk_b (fun y => hok z (by omega)) (fun y => ⟨hx, hx2, hx, hx2, ?_⟩)⟩⟩) h.2.1.1.1 rfl⟩
  · exact eX2_wrong hst ⟨rfl, hno (fun y => z y.1) _ fl⟩
  · exact eX2_wrong hst ⟨rfl, hno (fun q => by omega) _ fl⟩
theorem R_isShelf (hst : l.stackTraces = false) {v : Nat} (hv : v < 27 ^ 8) (hQ : Q (.inl (some (.int (bI (decide (1 ≤ v ∧ v ≤ 8)))))) s f) : EvC l E w d MX11_isShelf [.long (lN (cv v))] s f Q := by
  have hl := cv_lt v
  rw [← dec_iff (cv_shelf hv).1] at hQ
  have e1 : lg_cmp (lN (cv v)) 1 < 0 ↔ cv v < 1 := by rw [lg_cmp_lt, show (1 : Int64) = lN 1 from rfl, Int64.lt_iff_toInt_lt, lN_toI (by omega), lN_toI (by omega)]; omega
  have e2 : 0 < lg_cmp (lN (cv v)) 8 ↔ 8 < cv v := by rw [lg_cmp_gt, show (8 : Int64) = lN 8 from rfl, Int64.lt_iff_toInt_lt, lN_toI (by omega), lN_toI (by omega)]; omega
  refine eR11_isShelf hst ⟨fun z => ?_, fun z => ⟨fun y => ?_, fun y => ?_⟩⟩
  · rw [decide_eq_false (by have := e1.mp z; omega)] at hQ; exact hQ
  · rw [decide_eq_false (by have := e2.mp y; omega)] at hQ; exact hQ
  · rw [decide_eq_true (by have : ¬ cv v < 1 := fun q => z (e1.mpr q); have : ¬ 8 < cv v := fun q => y (e2.mpr q); omega)] at hQ; exact hQ
theorem R_isOf (hst : l.stackTraces = false) {k : Nat} (h : cSc ch n p o s) (hx : oc f x0 11) (hx2 : vl f x0 147 = .ref (w.1 2)) (hk : k ≤ 3) (hQ : Q (.inl (some (.int (bI (decide (lvT (tk ch n p) = k)))))) s f) : EvC l E w d MX11_isOf [.ref x0, .int (nI k)] s f Q := by
  have ht := h.tk
  have h14 : (tk ch n p).1 ≤ 4 := ht.1.1
  refine eR11_isOf hst ⟨hx, hx2, pk_eq (tk ch n p).1 3 (fun z => ?_) (fun z => ?_) h.2.1.1.1 rfl⟩
  · have e : lvT (tk ch n p) = slv (tk ch n p).2.2.1 := if_pos z
    rw [e] at hQ
    have h22 := h.2.1.1.2.2.2 (Or.inr z)
    have hv := ht.2.2.2.1 z
    rw [h22]
    obtain ⟨v, ev⟩ : ∃ v, v = (tk ch n p).2.2.1 := ⟨_, rfl⟩
    rw [← ev] at hQ hv ⊢
    have T : slv v = k → Q (.inl (some (.int 1))) s f := fun e => by rw [decide_eq_true e] at hQ; exact hQ
    have N : ¬ slv v = k → Q (.inl (some (.int 0))) s f := fun e => by rw [decide_eq_false e] at hQ; exact hQ
    have hs : slv v = if v = 38 ∨ v = 124 then 0 else if v = 317 ∨ v = 289 ∨ v = 316 ∨ v = 318 ∨ v = 60 ∨ v = 62 then 1 else if v = 43 ∨ v = 45 then 2 else if v = 42 ∨ v = 47 ∨ v = 37 then 3 else 9 := rfl
    refine pk_eq k 0 (fun k0 => ⟨hx, hx2, ?_⟩) (fun k0 => pk_eq k 1 (fun k1 => ⟨hx, hx2, ?_⟩) (fun k1 => pk_eq k 2 (fun k2 => ⟨hx, hx2, ?_⟩) (fun k2 => ⟨hx, hx2, ?_⟩) rfl rfl) rfl rfl) rfl rfl
    · exact pk_eq v 38 (fun y => T (by rw [hs]; simp [y, k0])) (fun y => ⟨hx, hx2, bn_eq v 124 (fun y2 => N (by rw [hs]; split <;> (try split) <;> (try split) <;> (try split) <;> omega)) (fun y2 => T (by rw [hs]; simp [y2, k0])) rfl rfl⟩) rfl rfl
    · refine pk_eq v 317 (fun y => T (by rw [hs]; simp [y, k1])) (fun y => ⟨hx, hx2, pk_eq v 289 (fun y2 => T (by rw [hs]; simp [y2, k1])) (fun y2 => ⟨hx, hx2, pk_eq v 316 (fun y3 => T (by rw [hs]; simp [y3, k1])) (fun y3 => ⟨hx, hx2, pk_eq v 318 (fun y4 => T (by rw [hs]; simp [y4, k1])) (fun y4 => ⟨hx, hx2, pk_eq v 60 (fun y5 => T (by rw [hs]; simp [y5, k1])) (fun y5 => ⟨hx, hx2, bn_eq v 62 (fun y6 => N ?_) (fun y6 => T (by rw [hs]; simp [y6, k1])) rfl rfl⟩) rfl rfl⟩) rfl rfl⟩) rfl rfl⟩) rfl rfl⟩) rfl rfl
      rw [hs]; split <;> (try split) <;> (try split) <;> (try split) <;> omega
    · exact pk_eq v 43 (fun y => T (by rw [hs]; simp [y, k2])) (fun y => ⟨hx, hx2, bn_eq v 45 (fun y2 => N (by rw [hs]; split <;> (try split) <;> (try split) <;> (try split) <;> omega)) (fun y2 => T (by rw [hs]; simp [y2, k2])) rfl rfl⟩) rfl rfl
    · have k3 : k = 3 := by omega
      exact pk_eq v 42 (fun y => T (by rw [hs]; simp [y, k3])) (fun y => ⟨hx, hx2, pk_eq v 47 (fun y2 => T (by rw [hs]; simp [y2, k3])) (fun y2 => ⟨hx, hx2, bn_eq v 37 (fun y3 => N (by rw [hs]; split <;> (try split) <;> (try split) <;> (try split) <;> omega)) (fun y3 => T (by rw [hs]; simp [y3, k3])) rfl rfl⟩) rfl rfl⟩) rfl rfl
  · have e : lvT (tk ch n p) = 9 := if_neg z
    rw [decide_eq_false (by omega)] at hQ; exact hQ
end RD
