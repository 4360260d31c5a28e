/-! THE MODEL'S PARSER: faults, signs, reduce, names -/
/-- a fault, or one that is sure to come: the token at hand is none; so many orders at most -/
def mFt (ch : Nat → Nat) (n hf : Nat) (s0 : MS) (cb k pl : Nat) (s : MS) : Prop := mXb ch n hf s0 s ∧ (∃ c', s.1 85 = nI c' ∧ c' ≤ cb) ∧ ((1 ≤ k ∧ k ≤ 6 ∧ s.1 66 = nI k ∧ s.1 67 = nI pl) ∨ (k = 1 ∧ s.1 66 = 0 ∧ ∃ t : Tok, mTk s t ∧ t.1 = 4 ∧ t.2.1 = pl ∧ t.2.2.1 < 2 ^ 50))
def topk : List XE → Nat
  | [] => 0
  | x :: _ => x.1
/-- what comes of a sign that waits -/
def odY (y : XE) : Od := if y.1 = 2 then (4, y.2.1, 0, 0, nI y.2.2.2.1) else (5, y.2.1, 0, 0, nI y.2.2.2.1)
def oem (b : Nat) : (Nat → Od) → Nat → List XE → (Nat → Od)
  | O, _, [] => O
  | O, c, y :: Y => oem b (oup O (b + c) (odY y)) (c + 1) Y
def slvI (a : Nat) : Int32 := if slv a = 9 then -1 else nI (slv a)
theorem slvI_fin : ∀ a : Fin 128, slvI a.val = (if a.val = 38 ∨ a.val = 124 then 0 else if 256 ≤ a.val ∨ a.val = 60 ∨ a.val = 62 then 1 else if a.val = 43 ∨ a.val = 45 then 2 else if a.val = 42 ∨ a.val = 47 ∨ a.val = 37 then 3 else -1) := by decide +kernel
theorem slvI_m {a : Nat} (h : a < 128 ∨ a = 317 ∨ a = 289 ∨ a = 316 ∨ a = 318) : mSg a < 1000 ∧ slvI a = (if mSg a = 38 ∨ mSg a = 124 then 0 else if 256 ≤ mSg a ∨ mSg a = 60 ∨ mSg a = 62 then 1 else if mSg a = 43 ∨ mSg a = 45 then 2 else if mSg a = 42 ∨ mSg a = 47 ∨ mSg a = 37 then 3 else -1) := by
  rcases h with h | rfl | rfl | rfl | rfl
  · have e : mSg a = a := by unfold mSg; rw [if_neg (by omega), if_neg (by omega), if_neg (by omega), if_neg (by omega)]
    rw [e]
    exact ⟨by omega, slvI_fin ⟨a, h⟩⟩
  · decide
  · decide
  · decide
  · decide
theorem sgV_128 {a : Nat} (h : sgV a) : a < 128 ∨ a = 317 ∨ a = 289 ∨ a = 316 ∨ a = 318 := by unfold sgV at h; omega
theorem slvI_V {a : Nat} (h : sgV a) : slvI a = nI (slv a) := by
  have := (sgV_slv h).1
  unfold slvI; rw [if_neg (by omega)]
theorem slv_V {a : Nat} (h : ¬ slv a = 9) : sgV a := by
  unfold slv at h
  unfold sgV
  split at h
  · omega
  split at h
  · omega
  split at h
  · omega
  split at h
  · omega
  · exact absurd rfl h
section PM4
variable {l : Launch} {E : EN} {w : MO} {d : Nat} {s s0 s' : MS} {Q : Option Value → MS → Prop} {ch : Nat → Nat} {n hf p p' o o' c : Nat} {vs : List Nat} {O : Nat → Od} {B : List Tok} {X : List XE} {x : XE}
theorem mXg.flt {g : Nat} (h : mXg g ch n hf s0 ((p, o), vs, O, c, B, X) s) {k pl : Nat} (h1 : 1 ≤ k) (h2 : k ≤ 6) : mFt ch n hf s0 c k pl (sI (sI s 66 (nI k)) 67 (nI pl)) :=
  ⟨h.1.fr ((mfX.sI _ _ 66 _).trans (mfX.sI _ _ 67 _)), ⟨c, h.2.2.2.2.1.1, Nat.le_refl _⟩, Or.inl ⟨h1, h2, rfl, rfl⟩⟩
theorem wk_le (t : Tok) : 1 ≤ wk t ∧ wk t ≤ 6 := by unfold wk; split <;> omega
theorem mX.pop (h : mX ch n hf s0 ((p, o), vs, O, c, B, x :: X) s) : mX ch n hf s0 ((p, o), vs, O, c, B, X) (sI s 101 (nI X.length)) ∧ mXe s X.length x ∧ s.1 101 = nI (X.length + 1) ∧ s.1 101 - 1 = nI X.length := by
  obtain ⟨h1, h2, h3, h4, h5, h6, h7⟩ := h
  replace h7 : mWs s (x :: X) := h7 (Nat.le_refl _)
  have e : s.1 101 = nI (X.length + 1) := h7.1
  exact ⟨⟨h1.fr (mfX.sI _ _ 101 _), h2, h3, fun q => (h4 q).cg rfl (fun _ _ => rfl), h5.cg rfl (fun _ _ _ _ _ => rfl), h6.cg rfl (fun _ _ _ _ => rfl) (fun _ _ => rfl), fun _ => ⟨rfl, h7.2.2.cg (fun _ _ _ _ => rfl) (fun _ _ => rfl)⟩⟩, h7.2.1, e, by rw [e]; exact nI_p1 (by omega)⟩
theorem mX.len (h : mX ch n hf s0 ((p, o), vs, O, c, B, X) s) : s.1 101 = nI X.length := (h.2.2.2.2.2.2 (Nat.le_refl _)).1
theorem MP_isWaiting (hst : l.stackTraces = false) {k : Nat} (h : mX ch n hf s0 ((p, o), vs, O, c, B, X) s) (hX : X.length ≤ 80) (hk : 1 ≤ k) (hk2 : k ≤ 8) (hQ : Q (some (.int (bI (decide (topk X = k))))) s) : EvM l E w d MX10_isWaiting [.ref w.1, .int (nI k)] s Q := by
  refine eX10_isWaiting hst ?_
  cases X with
  | nil =>
    have e : s.1 101 = 0 := h.len
    rw [decide_eq_false (show ¬ (topk [] = k) from fun z => by have : 0 = k := z; omega)] at hQ
    exact ⟨fun _ => hQ, fun z => absurd (by rw [e]; decide) z⟩
  | cons x X =>
    obtain ⟨-, g, e, e2⟩ := h.pop
    have hX' : X.length + 1 ≤ 80 := hX
    rw [e2, nI_clamp (by omega)]
    have hx := g.2.2.2.2.2.1.1
    refine pk_le (X.length + 1) 0 (fun z => absurd z (by omega)) (fun _ => ⟨inB_n (by omega), bn_eq x.1 k (fun z => ?_) (fun z => ?_) g.1 rfl⟩) e rfl
    · rw [decide_eq_false (show ¬ (topk (x :: X) = k) from z)] at hQ; exact hQ
    · rw [decide_eq_true (show topk (x :: X) = k from z)] at hQ; exact hQ
theorem MP_levelOf (hst : l.stackTraces = false) {a : Nat} (ha : a < 128 ∨ a = 317 ∨ a = 289 ∨ a = 316 ∨ a = 318) (hQ : Q (some (.int (slvI a))) s) : EvM l E w d MX10_levelOf [.int (nI (mSg a))] s Q := by
  obtain ⟨hm, e⟩ := slvI_m ha
  rw [e] at hQ
  obtain ⟨m, em⟩ : ∃ m, m = mSg a := ⟨_, rfl⟩
  rw [← em] at hQ hm ⊢
  refine eX10_levelOf hst (pk_eq m 38 (fun z => ?_) (fun z1 => bn_eq m 124 (fun z2 => pk_le 256 m (fun z => ?_) (fun z3 => pk_eq m 60 (fun z => ?_) (fun z4 => bn_eq m 62 (fun z5 => pk_eq m 43 (fun z => ?_) (fun z6 => bn_eq m 45 (fun z7 => pk_eq m 42 (fun z => ?_) (fun z8 => pk_eq m 47 (fun z => ?_) (fun z9 => bn_eq m 37 (fun z10 => ?_) (fun z => ?_) rfl rfl) rfl rfl) rfl rfl) (fun z => ?_) rfl rfl) rfl rfl) (fun z => ?_) rfl rfl) rfl rfl) rfl rfl) (fun z => ?_) rfl rfl) rfl rfl)
  · rw [if_pos (by omega)] at hQ; exact hQ
  · rw [if_neg (by omega), if_pos (by omega)] at hQ; exact hQ
  · rw [if_neg (by omega), if_pos (by omega)] at hQ; exact hQ
  · rw [if_neg (by omega), if_neg (by omega), if_pos (by omega)] at hQ; exact hQ
  · rw [if_neg (by omega), if_neg (by omega), if_neg (by omega), if_pos (by omega)] at hQ; exact hQ
  · rw [if_neg (by omega), if_neg (by omega), if_neg (by omega), if_pos (by omega)] at hQ; exact hQ
  · rw [if_neg (by omega), if_neg (by omega), if_neg (by omega), if_neg (by omega)] at hQ; exact hQ
  · rw [if_neg (by omega), if_neg (by omega), if_neg (by omega), if_pos (by omega)] at hQ; exact hQ
  · rw [if_neg (by omega), if_neg (by omega), if_pos (by omega)] at hQ; exact hQ
  · rw [if_neg (by omega), if_pos (by omega)] at hQ; exact hQ
  · rw [if_pos (by omega)] at hQ; exact hQ
theorem MP_reduce (hst : l.stackTraces = false) {r : Nat} (hr : r ≤ 3) {Y : List XE} : ∀ {O : Nat → Od} {c : Nat} {s : MS}, mX ch n hf s0 ((p, o), vs, O, c, B, Y ++ X) s → c + Y.length ≤ 4000 → (Y ++ X).length ≤ 80 → (∀ y ∈ Y, y.1 = 1 ∧ r ≤ slv y.2.1) → (∀ x X', X = x :: X' → x.1 = 1 → slv x.2.1 < r) → (∀ s', mX ch n hf s0 ((p, o), vs, oem (4000 * (1 - hf)) O c Y, c + Y.length, B, X) s' → Q none s') → ExM l E w (d + 1) MX10_reduce 0 [some (.ref w.1), some (.int (nI r))] [] s Q := by
  induction Y with
  | nil =>
    intro O c s h hc hl hY hX hQ
    refine vX10_reduce_0 (MP_isWaiting hst (k := 1) h hl (by omega) (by omega) ⟨_, rfl, pk_b (fun z => hQ s h) (fun z => ?_)⟩)
    cases X with
    | nil => exact absurd z (by decide)
    | cons x X' =>
      obtain ⟨-, g, e, e2⟩ := h.pop
      have hl' : X'.length + 1 ≤ 80 := hl
      have hz : x.1 = 1 := z
      have hsg := g.2.2.2.2.2.2.1 hz
      rw [e2, nI_clamp (by omega), g.2.1 (by omega)]
      refine ⟨inB_n (by omega), MP_levelOf hst (sgV_128 hsg) ⟨_, rfl, ?_⟩⟩
      have hlt := hX x X' rfl hz
      rw [slvI_V hsg]
      exact pk_lt (slv x.2.1) r (fun _ => hQ s h) (fun q => absurd q (by omega)) rfl rfl
  | cons y Y ih =>
    intro O c s h hc hl hY hX hQ
    have hc' : c + (Y.length + 1) ≤ 4000 := hc
    have hl' : (Y ++ X).length + 1 ≤ 80 := hl
    have hy := hY y (List.mem_cons_self ..)
    obtain ⟨hp, g, e, e2⟩ := (show mX ch n hf s0 ((p, o), vs, O, c, B, y :: (Y ++ X)) s from h).pop
    have hsg := g.2.2.2.2.2.2.1 hy.1
    have hsl := sgV_slv hsg
    refine vX10_reduce_0 (MP_isWaiting hst (k := 1) h hl (by omega) (by omega) ⟨_, rfl, pk_b (fun z => absurd hy.1 z) (fun z => ?_)⟩)
    rw [e2, nI_clamp (by omega), g.2.1 (by omega)]
    refine ⟨inB_n (by omega), MP_levelOf hst (sgV_128 hsg) ⟨_, rfl, ?_⟩⟩
    rw [slvI_V hsg, e2, nI_clamp (by omega), g.2.1 (by omega), g.2.2.2.1]
    refine pk_lt (slv y.2.1) r (fun q => absurd q (by omega)) (fun _ => ⟨inB_n (by omega), inB_n (by omega), ?_⟩) rfl rfl
    have eo : odY y = (5, y.2.1, 0, 0, nI y.2.2.2.1) := by unfold odY; rw [if_neg (by omega)]
    refine MP_order hst (od := odY y) hp (by omega) (by rw [eo]; rfl) (by rw [eo]; exact hsl.2.2.2) (by rw [eo]; rfl) (by rw [eo]) (by rw [eo]; exact (by decide : ¬ 5 = 13)) (fun s' hs' _ => ⟨_, rfl, ?_⟩)
    refine ih hs' (by omega) (by omega) (fun y hy => hY y (List.mem_cons_of_mem _ hy)) hX (fun s'' h'' => hQ s'' ?_)
    have en : c + 1 + Y.length = c + (y :: Y).length := by rw [List.length_cons]; omega
    rw [en] at h''
    exact h''
theorem MP_sign (hst : l.stackTraces = false) {g k : Nat} (h : mXg g ch n hf s0 ((p, o), vs, O, c, B, X) s) (hk : k < 128) (ho : k = 41 ∨ k = 93 ∨ k = 125 → 1 ≤ o) (hno : ¬ ((tk ch n p).1 = 3 ∧ (tk ch n p).2.2.1 = k) → mFt ch n hf s0 c (wk (tk ch n p)) (tk ch n p).2.1 (sI (sI s 66 (nI (wk (tk ch n p)))) 67 (nI (tk ch n p).2.1)) → Q none (sI (sI s 66 (nI (wk (tk ch n p)))) 67 (nI (tk ch n p).2.1))) (hok : (tk ch n p).1 = 3 → (tk ch n p).2.2.1 = k → ∀ s', mXg g ch n hf s0 (((tk ch n p).2.2.2, if k = 41 ∨ k = 93 ∨ k = 125 then o - 1 else o), vs, O, c, B, X) s' → wSame s s' → Q none s') : EvM l E w (d + 4) MX10_sign [.ref w.1, .int (nI k)] s Q := by
  have ht := h.1.tk h.2.1.2
  have h66 : s.1 66 = 0 := h.2.2.1.1
  have h68 : s.1 68 = nI o := h.2.2.1.2.1
  have ho10 : o ≤ 10 := h.2.2.1.2.2
  have tke : ∀ o', o' ≤ 10 → (∀ s', mXg g ch n hf s0 (((tk ch n p).2.2.2, o'), vs, O, c, B, X) s' → wSame s s' → Q none s') → EvM l E w (d + 3) MX10_take [.ref w.1] (sI s 68 (nI o')) (fun r s' => r = none ∧ Q none s') := by
    intro o' ho' q
    have h' := h.opn ho'
    exact MP_take hst h'.1.1 h'.2.1.1.2.2.1 (ht.1.2.2.2.2) (fun s' a b => ⟨rfl, q s' (h'.tok a b ht.1.2.2.2.2) ⟨fun j _ => by rw [a.2.2]; rfl, by rw [a.2.2]; rfl⟩⟩)
  refine eX10_sign hst ⟨fun _ => M_isSign hst h.2.1.1 ht.1.1 ht.2.1 hk ⟨_, rfl, pk_b (fun z => ?_) (fun z => ?_)⟩, fun z => absurd (by rw [h66]; decide) z⟩
  · exact M_wrong hst h.2.1.1 ht.1.1 h66 ⟨rfl, hno z (h.flt (wk_le _).1 (wk_le _).2)⟩
  · have hok := hok z.1 z.2
    rw [h68]
    by_cases c41 : k = 41 ∨ k = 93 ∨ k = 125
    · have ho' := ho c41
      rw [if_pos c41] at hok
      rw [nI_p1 (by omega)]
      have q := tke (o - 1) (by omega) hok
      exact pk_eq k 41 (fun _ => q) (fun c1 => pk_eq k 93 (fun _ => q) (fun c2 => bn_eq k 125 (fun c3 => absurd c41 (by omega)) (fun _ => q) rfl rfl) rfl rfl) rfl rfl
    · rw [if_neg c41] at hok
      refine pk_eq k 41 (fun z => absurd z (by omega)) (fun c1 => pk_eq k 93 (fun z => absurd z (by omega)) (fun c2 => bn_eq k 125 (fun c3 => ?_) (fun z => absurd z (by omega)) rfl rfl) rfl rfl) rfl rfl
      exact MP_take hst h.1.1 h.2.1.1.2.2.1 (ht.1.2.2.2.2) (fun s' a b => ⟨rfl, hok s' (h.tok a b ht.1.2.2.2.2) ⟨fun j _ => by rw [a.2.2], by rw [a.2.2]⟩⟩)
theorem MP_opens (hst : l.stackTraces = false) {g k : Nat} (h : mXg g ch n hf s0 ((p, o), vs, O, c, B, X) s) (hk : k < 128) (hno : ¬ ((tk ch n p).1 = 3 ∧ (tk ch n p).2.2.1 = k) → ∀ s', mFt ch n hf s0 c (wk (tk ch n p)) (tk ch n p).2.1 s' → (2 ≤ g → s'.1 101 = nI X.length) → ¬ s'.1 66 ≤ 0 → Q none s') (hdp : (tk ch n p).1 = 3 → (tk ch n p).2.2.1 = k → o = 10 → ∀ s', mFt ch n hf s0 c 3 (tk ch n p).2.1 s' → (2 ≤ g → s'.1 101 = nI X.length) → ¬ s'.1 66 ≤ 0 → Q none s') (hok : (tk ch n p).1 = 3 → (tk ch n p).2.2.1 = k → o < 10 → ∀ s', mXg g ch n hf s0 (((tk ch n p).2.2.2, o + 1), vs, O, c, B, X) s' → Q none s') : EvM l E w (d + 4) MX10_opens [.ref w.1, .int (nI k)] s Q := by
  have ht := h.1.tk h.2.1.2
  have h66 : s.1 66 = 0 := h.2.2.1.1
  have h68 : s.1 68 = nI o := h.2.2.1.2.1
  have ho10 : o ≤ 10 := h.2.2.1.2.2
  have hwk : ¬ nI (wk (tk ch n p)) ≤ 0 := by unfold wk; split <;> decide
  refine eX10_opens hst ⟨fun _ => M_isSign hst h.2.1.1 ht.1.1 ht.2.1 hk ⟨_, rfl, bn_b (fun z => ?_) (fun z => ?_)⟩, fun z => absurd (by rw [h66]; decide) z⟩
  · exact M_wrong hst h.2.1.1 ht.1.1 h66 ⟨rfl, hno z _ (h.flt (wk_le _).1 (wk_le _).2) (fun q => (h.ww q).1) hwk⟩
  · rw [h68, show (nI o + 1 : Int32) = nI (o + 1) from (nI_succ o).symm]
    refine pk_le (o + 1) 10 (fun q => ?_) (fun q => ?_) rfl rfl
    · have h' := h.opn (o' := o + 1) q
      exact MP_take hst h'.1.1 h'.2.1.1.2.2.1 (ht.1.2.2.2.2) (fun s' a b => ⟨rfl, hok z.1 z.2 (by omega) s' (h'.tok a b ht.1.2.2.2.2)⟩)
    · rw [h.2.1.1.2.1]
      refine M_breaks hst h66 ⟨rfl, hdp z.1 z.2 (by omega) _ ?_ (fun q => (h.ww q).1) (show ¬ (3 : Int32) ≤ 0 by decide)⟩
      have h' := h.1.fr ((mfX.sI _ _ 68 (nI (o + 1))).trans ((mfX.sI _ _ 66 3).trans (mfX.sI _ _ 67 (nI (tk ch n p).2.1))))
      exact ⟨h', ⟨c, h.2.2.2.2.1.1, Nat.le_refl _⟩, Or.inl ⟨by decide, by decide, rfl, rfl⟩⟩
end PM4
