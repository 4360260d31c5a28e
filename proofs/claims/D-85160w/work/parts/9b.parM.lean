/-! THE MODEL'S PARSER: words, small methods -/
abbrev Tok : Type := Nat × Nat × Nat × Nat
def wdL : List Nat := [176, 249, 107681, 12387497, 4797, 257, 13903, 261347000, 9592700, 15091, 419, 13550, 188623, 315749, 151150, 365869, 1887, 381245, 334901377, 223456, 14431, 9528, 9734, 376205, 385418, 4075223, 40187, 126893, 409469, 4085899, 208022, 394691, 92275, 2774, 321581, 125041, 11695, 8399691, 375062, 99233, 129361]
def kwF (v : Nat) : Nat → Nat
  | 0 => 41
  | g + 1 => if wdL.getD (40 - g) 0 = v then 40 - g else kwF v g
/-- which word that is kept a token is; 41: none -/
def kw (t : Tok) : Nat := if t.1 = 1 then kwF t.2.2.1 41 else 41
theorem kwF_is (v : Nat) : ∀ g, g ≤ 41 → kwF v g ≤ 41 ∧ (kwF v g < 41 → 41 - g ≤ kwF v g ∧ wdL.getD (kwF v g) 0 = v) ∧ (kwF v g = 41 → ∀ j, 41 - g ≤ j → j < 41 → ¬ wdL.getD j 0 = v)
  | 0, _ => ⟨Nat.le_refl _, fun h => absurd h (by show ¬ (41 < 41); omega), fun _ j h1 h2 => by omega⟩
  | g + 1, h => by
    have ih := kwF_is v g (by omega)
    show (if wdL.getD (40 - g) 0 = v then 40 - g else kwF v g) ≤ 41 ∧ ((if wdL.getD (40 - g) 0 = v then 40 - g else kwF v g) < 41 → 41 - (g + 1) ≤ (if wdL.getD (40 - g) 0 = v then 40 - g else kwF v g) ∧ wdL.getD (if wdL.getD (40 - g) 0 = v then 40 - g else kwF v g) 0 = v) ∧ ((if wdL.getD (40 - g) 0 = v then 40 - g else kwF v g) = 41 → ∀ j, 41 - (g + 1) ≤ j → j < 41 → ¬ wdL.getD j 0 = v)
    by_cases c : wdL.getD (40 - g) 0 = v
    · rw [if_pos c]
      exact ⟨by omega, fun _ => ⟨by omega, c⟩, fun z => by omega⟩
    · rw [if_neg c]
      refine ⟨ih.1, fun z => ⟨by have := (ih.2.1 z).1; omega, (ih.2.1 z).2⟩, fun z j h1 h2 => ?_⟩
      by_cases e : j = 40 - g
      · rw [e]; exact c
      · exact ih.2.2 z j (by omega) h2
def mWd (s : MS) : Prop := (∀ k, k < 41 → s.2.2.2 57 k = lN (wdL.getD k 0)) ∧ ∀ b, b < 30 → s.2.2.1 58 b = if b = 3 ∨ 19 ≤ b then 2 else 1
theorem wdL_lt : ∀ k : Fin 41, wdL.getD k.val 0 < 2 ^ 50 := by decide +kernel
theorem lN_eqB {a b : Nat} (ha : a < 2 ^ 50) (hb : b < 2 ^ 50) : lN a = lN b ↔ a = b := by
  rw [← Int64.toInt_inj, lN_toI (by omega), lN_toI (by omega)]; omega
theorem lN_cmp {a b : Nat} (ha : a < 2 ^ 50) (hb : b < 2 ^ 50) : lg_cmp (lN a) (lN b) = 0 ↔ a = b := by rw [lg_cmp_eq, lN_eqB ha hb]
theorem pk_b {P : Prop} [Decidable P] {A B : Prop} (f : ¬ P → A) (g : P → B) : (bI (decide P) = 0 → A) ∧ (¬ bI (decide P) = 0 → B) := by
  by_cases h : P
  · rw [decide_eq_true h]; exact ⟨fun z => absurd z (by decide), fun _ => g h⟩
  · rw [decide_eq_false h]; exact ⟨fun _ => f h, fun z => absurd rfl z⟩
theorem bn_b {P : Prop} [Decidable P] {A B : Prop} (f : ¬ P → A) (g : P → B) : (¬ bI (decide P) = 0 → B) ∧ (bI (decide P) = 0 → A) := And.symm (pk_b f g)
theorem mSg_eq {v c : Nat} (hc : c < 128) : mSg v = c ↔ v = c := by unfold mSg; split <;> (try split) <;> (try split) <;> (try split) <;> omega
theorem mSg_lt {v : Nat} (h : v < 2 ^ 50) : mSg v < 2 ^ 50 := by unfold mSg; split <;> (try split) <;> (try split) <;> (try split) <;> omega
/-! facts of tokens -/
def tkW (n k : Nat) (t : Tok) : Prop := (t.1 ≤ 4 ∧ k ≤ t.2.1 ∧ t.2.1 ≤ n ∧ t.2.1 ≤ t.2.2.2 ∧ t.2.2.2 ≤ n) ∧ t.2.2.1 < 2 ^ 50 ∧ (t.1 = 2 → t.2.2.1 < 2 ^ 31) ∧ (t.1 = 3 → t.2.2.1 < 512) ∧ (¬ t.1 = 0 → t.2.1 < t.2.2.2)
theorem wN_lt {b : Nat} {ch : Nat → Nat} {a : Nat} : ∀ m, (∀ i, i < m → ch (a + i) - 96 < b) → wN b ch a m < b ^ m
  | 0, _ => Nat.one_pos
  | m + 1, h => by
    have ih := wN_lt m (fun i hi => h i (by omega))
    have h2 := h m (by omega)
    show b * wN b ch a m + (ch (a + m) - 96) < b ^ (m + 1)
    have : b * wN b ch a m + b ≤ b * b ^ m := by
      have : b * (wN b ch a m + 1) ≤ b * b ^ m := Nat.mul_le_mul_left b ih
      rw [Nat.mul_add, Nat.mul_one] at this
      exact this
    rw [Nat.pow_succ, Nat.mul_comm (b ^ m) b]
    omega
theorem p27 {m : Nat} (h : m ≤ 8) : 27 ^ m < 2 ^ 50 := Nat.lt_of_le_of_lt (Nat.pow_le_pow_right (by omega) h) (by decide)
theorem wN_word {ch : Nat → Nat} {n p m : Nat} (hm : p + m ≤ wle isL ch n p) {i : Nat} (hi : i < m) : 97 ≤ ch (p + i) ∧ ch (p + i) ≤ 122 := by
  have := wle_in (q := isL) rfl (ch := ch) (n := n) (n - p) p (p + i) (Nat.le_refl _) (by omega) (by omega)
  unfold bt at this
  split at this
  · exact isL_iff.mp this
  · cases this
theorem dN_lt {ch : Nat → Nat} {a : Nat} : ∀ m, (∀ i, i < m → ch (a + i) - 48 < 10) → dN ch a m < 10 ^ m
  | 0, _ => Nat.one_pos
  | m + 1, h => by
    have ih := dN_lt m (fun i hi => h i (by omega))
    have h2 := h m (by omega)
    show 10 * dN ch a m + (ch (a + m) - 48) < 10 ^ (m + 1)
    rw [Nat.pow_succ]
    omega
theorem tk_ok {ch : Nat → Nat} {n k : Nat} (hch : ∀ k, ch k < 256) (hk : k ≤ n) : tkW n k (tk ch n k) := by
  have hs := sk_ge (ch := ch) hk
  unfold tk
  dsimp only
  split
  · unfold tkW; dsimp only; omega
  rename_i h0
  split
  · rename_i hl
    have hw := wle_ge (q := isL) (ch := ch) (n := n) (k := sk ch n k)
    have hgo := wle_go (q := isL) rfl (ch := ch) (n := n) (k := sk ch n k) (by unfold bt; rw [if_pos (by omega)]; exact hl)
    have hw2 := wle_ge (q := isL) (ch := ch) (n := n) (k := sk ch n k + 1)
    have hlt : sk ch n k < wle isL ch n (sk ch n k) := by rw [hgo.2]; omega
    split
    · unfold tkW; dsimp only; omega
    · rename_i h8
      have hN : wN 27 ch (sk ch n k) (wle isL ch n (sk ch n k) - sk ch n k) < 2 ^ 50 := by
        refine Nat.lt_trans (wN_lt _ (fun i hi => ?_)) (p27 (by omega))
        have := wN_word (ch := ch) (n := n) (p := sk ch n k) (m := wle isL ch n (sk ch n k) - sk ch n k) (by omega) hi
        omega
      unfold tkW; dsimp only; omega
  split
  · rename_i hl
    have hw := wle_ge (q := isD) (ch := ch) (n := n) (k := sk ch n k)
    have hgo := wle_go (q := isD) rfl (ch := ch) (n := n) (k := sk ch n k) (by unfold bt; rw [if_pos (by omega)]; exact hl)
    have hw2 := wle_ge (q := isD) (ch := ch) (n := n) (k := sk ch n k + 1)
    have hlt : sk ch n k < wle isD ch n (sk ch n k) := by rw [hgo.2]; omega
    split
    · unfold tkW; dsimp only; omega
    · rename_i h8
      unfold tkW; dsimp only; omega
  have hc := hch (sk ch n k)
  split
  · rename_i ht
    have hb : sk ch n k + 1 < n := by
      have := ht.2
      unfold bt at this
      split at this
      · assumption
      · cases this
    unfold tkW; dsimp only; omega
  split
  · unfold tkW; dsimp only; omega
  · unfold tkW; dsimp only; omega
section PM
variable {l : Launch} {E : EN} {w : MO} {d : Nat} {s : MS} {Q : Option Value → MS → Prop} {ch : Nat → Nat} {n : Nat}
theorem mTk_k {t : Tok} (h : mTk s t) (hv : t.1 ≤ 4) (k : Nat) (hk : k < 2 ^ 31) : s.1 62 = nI k ↔ t.1 = k := by
  rw [h.1, nI_eq (by omega) hk]
theorem M_isSign (hst : l.stackTraces = false) {t : Tok} {c : Nat} (h : mTk s t) (h4 : t.1 ≤ 4) (hv : t.2.2.1 < 2 ^ 50) (hc : c < 128) (hQ : Q (some (.int (bI (decide (t.1 = 3 ∧ t.2.2.1 = c))))) s) : EvM l E w d MX10_isSign [.ref w.1, .int (nI c)] s Q := by
  refine eX10_isSign hst (bn_eq t.1 3 (fun c1 => ?_) (fun c1 => ?_) h.1 rfl)
  · rw [decide_eq_false (fun z => c1 z.1)] at hQ; exact hQ
  · rw [h.2.2.2.2 c1, nI_l64 (by omega)]
    have e : lg_cmp (lN (mSg t.2.2.1)) (lN c) = 0 ↔ t.2.2.1 = c := by rw [lN_cmp (mSg_lt hv) (by omega), mSg_eq hc]
    refine ⟨fun z => ?_, fun z => ?_⟩
    · rw [decide_eq_false (fun y => z (e.mpr y.2))] at hQ; exact hQ
    · rw [decide_eq_true ⟨c1, e.mp z⟩] at hQ; exact hQ
theorem M_isWord (hst : l.stackTraces = false) {t : Tok} {k : Nat} (hw : mWd s) (h : mTk s t) (h4 : t.1 ≤ 4) (hv : t.2.2.1 < 2 ^ 50) (hk : k < 41) (hQ : Q (some (.int (bI (decide (t.1 = 1 ∧ t.2.2.1 = wdL.getD k 0))))) s) : EvM l E w d MX10_isWord [.ref w.1, .int (nI k)] s Q := by
  refine eX10_isWord hst (bn_eq t.1 1 (fun c1 => ?_) (fun c1 => ⟨inB_n hk, ?_⟩) h.1 rfl)
  · rw [decide_eq_false (fun z => c1 z.1)] at hQ; exact hQ
  · rw [nI_clamp (by omega), h.2.2.2.1 (Or.inl c1), hw.1 k hk]
    have e : lg_cmp (lN t.2.2.1) (lN (wdL.getD k 0)) = 0 ↔ t.2.2.1 = wdL.getD k 0 := lN_cmp hv (wdL_lt ⟨k, hk⟩)
    refine ⟨fun z => ?_, fun z => ?_⟩
    · rw [decide_eq_false (fun y => z (e.mpr y.2))] at hQ; exact hQ
    · rw [decide_eq_true ⟨c1, e.mp z⟩] at hQ; exact hQ
/-- what wordHere answers -/
def kwI (t : Tok) : Int32 := if kw t < 41 then nI (kw t) else -1
theorem M_wordHere (hst : l.stackTraces = false) {t : Tok} (hw : mWd s) (h : mTk s t) (h4 : t.1 ≤ 4) (hv : t.2.2.1 < 2 ^ 50) (hQ : Q (some (.int (kwI t))) s) : EvM l E w d MX10_wordHere [.ref w.1] s Q := by
  refine eX10_wordHere hst (pk_eq t.1 1 (fun c1 => ?_) (fun c1 => ?_) h.1 rfl)
  · have main : ∀ g, g ≤ 41 → kwF t.2.2.1 41 = kwF t.2.2.1 g → ExM l E w d MX10_wordHere 12 [some (.ref w.1), some (.int (nI (41 - g)))] [] s Q := by
      intro g
      induction g with
      | zero =>
        intro _ e
        refine vX10_wordHere_12 ⟨fun _ => ?_, fun c => absurd (by decide) c⟩
        have ek : kwI t = -1 := by
          unfold kwI kw; rw [if_pos c1, e]; rfl
        rw [ek] at hQ; exact hQ
      | succ g ih =>
        intro hg e
        refine vX10_wordHere_12 (pk_le 41 (41 - (g + 1)) (fun c => absurd c (by omega)) (fun _ => ⟨inB_n (by omega), ?_⟩) rfl rfl)
        rw [nI_clamp (by omega), hw.1 _ (by omega), h.2.2.2.1 (Or.inl c1)]
        have e2 : lg_cmp (lN (wdL.getD (41 - (g + 1)) 0)) (lN t.2.2.1) = 0 ↔ wdL.getD (41 - (g + 1)) 0 = t.2.2.1 := lN_cmp (wdL_lt ⟨41 - (g + 1), by omega⟩) hv
        have es : 41 - (g + 1) = 40 - g := by omega
        have ef : kwF t.2.2.1 (g + 1) = if wdL.getD (40 - g) 0 = t.2.2.1 then 40 - g else kwF t.2.2.1 g := rfl
        refine ⟨fun z => ?_, fun z => ?_⟩
        · rw [← nI_succ, show 41 - (g + 1) + 1 = 41 - g by omega]
          refine ih (by omega) ?_
          rw [e, ef, if_neg (by rw [← es]; exact fun y => z (e2.mpr y))]
        · have hk : kwF t.2.2.1 41 = 41 - (g + 1) := by rw [e, ef, if_pos (by rw [← es]; exact e2.mp z), es]
          have ek : kwI t = nI (41 - (g + 1)) := by
            unfold kwI kw; rw [if_pos c1, hk, if_pos (by omega)]
          rw [ek] at hQ; exact hQ
    exact main 41 (Nat.le_refl _) rfl
  · have ek : kwI t = -1 := by
      unfold kwI kw; rw [if_neg c1]; rfl
    rw [ek] at hQ; exact hQ
theorem kwI_ge {t : Tok} {A B : Prop} (f : kw t < 41 → A) (g : 41 ≤ kw t → B) : (0 ≤ kwI t → A) ∧ (¬ 0 ≤ kwI t → B) := by
  unfold kwI
  split
  · rename_i c; exact ⟨fun _ => f c, fun z => absurd (nI_pos' (by omega)) z⟩
  · exact ⟨fun z => absurd z (by decide), fun _ => g (by omega)⟩
theorem kwI_ge11 {t : Tok} {A B : Prop} (f : 11 ≤ kw t → kw t < 41 → A) (g : (kw t < 11 ∨ 41 ≤ kw t) → B) : (11 ≤ kwI t → A) ∧ (¬ 11 ≤ kwI t → B) := by
  unfold kwI
  split
  · rename_i c; exact pk_le 11 (kw t) (fun z => f z c) (fun z => g (Or.inl z)) rfl rfl
  · exact ⟨fun z => absurd z (by decide), fun _ => g (Or.inr (by omega))⟩
theorem M_isName (hst : l.stackTraces = false) {t : Tok} (hw : mWd s) (h : mTk s t) (h4 : t.1 ≤ 4) (hv : t.2.2.1 < 2 ^ 50) (hQ : Q (some (.int (bI (decide (t.1 = 1 ∧ kw t = 41))))) s) : EvM l E w (d + 1) MX10_isName [.ref w.1] s Q := by
  refine eX10_isName hst (bn_eq t.1 1 (fun c1 => ?_) (fun c1 => M_wordHere hst hw h h4 hv ⟨_, rfl, kwI_ge (fun z => ?_) (fun z => ?_)⟩) h.1 rfl)
  · rw [decide_eq_false (fun z => c1 z.1)] at hQ; exact hQ
  · rw [decide_eq_false (fun y => by omega)] at hQ; exact hQ
  · have hk : kw t = 41 := by
      have : kw t ≤ 41 := by
        unfold kw; rw [if_pos c1]; exact (kwF_is _ 41 (Nat.le_refl _)).1
      omega
    rw [decide_eq_true ⟨c1, hk⟩] at hQ; exact hQ
theorem MP_take (hst : l.stackTraces = false) {b : Nat} (h : mTx s ch n) (h65 : s.1 65 = nI b) (hb : b ≤ n) (hQ : ∀ s', mfK s s' → mTk s' (tk ch n b) → Q none s') : EvM l E w (d + 3) MX10_take [.ref w.1] s Q := by
  refine eX10_take hst ?_
  rw [h65]
  exact M_token hst h hb (fun s' a b => ⟨rfl, hQ s' a b⟩)
theorem M_breaks (hst : l.stackTraces = false) {x y : Int32} (h66 : s.1 66 = 0) (hQ : Q none (sI (sI s 66 x) 67 y)) : EvM l E w d MX10_breaks [.ref w.1, .int x, .int y] s Q :=
  eX10_breaks hst ⟨fun _ => hQ, fun c => absurd (by rw [h66]; decide) c⟩
theorem M_breaksF (hst : l.stackTraces = false) {x y : Int32} (h66 : ¬ s.1 66 ≤ 0) (hQ : Q none s) : EvM l E w d MX10_breaks [.ref w.1, .int x, .int y] s Q :=
  eX10_breaks hst ⟨fun c => absurd c h66, fun _ => hQ⟩
/-- the kind of fault that a token is where it can't come -/
def wk (t : Tok) : Nat := if t.1 = 4 then 1 else 2
theorem M_wrong (hst : l.stackTraces = false) {t : Tok} (h : mTk s t) (h4 : t.1 ≤ 4) (h66 : s.1 66 = 0) (hQ : Q none (sI (sI s 66 (nI (wk t))) 67 (nI t.2.1))) : EvM l E w (d + 1) MX10_wrong [.ref w.1] s Q := by
  unfold wk at hQ
  refine eX10_wrong hst (bn_eq t.1 4 (fun c => ?_) (fun c => ?_) h.1 rfl)
  · rw [if_neg c] at hQ; rw [h.2.1]; exact M_breaks hst h66 ⟨rfl, hQ⟩
  · rw [if_pos c] at hQ; rw [h.2.1]; exact M_breaks hst h66 ⟨rfl, hQ⟩
theorem M_isBracket (hst : l.stackTraces = false) {b : Nat} (h : mTx s ch n) (h65 : s.1 65 = nI b) (hb : b ≤ n) (hQ : Q (some (.int (bI (decide (bt ch n (sk ch n b) = 40))))) s) : EvM l E w (d + 2) MX10_isBracketBehind [.ref w.1] s Q := by
  have hn := h.2.1
  have hs := sk_ge (ch := ch) hb
  have hlt := bt_lt h.2.2.2 n (sk ch n b)
  refine eX10_isBracketBehind hst ?_
  rw [h65]
  refine M_begin hst h (by omega) ⟨_, rfl, M_byteAt hst h (by omega) ⟨_, rfl, bn_eq (bt ch n (sk ch n b)) 40 (fun c => ?_) (fun c => ?_) rfl rfl⟩⟩
  · rw [decide_eq_false c] at hQ; exact hQ
  · rw [decide_eq_true c] at hQ; exact hQ
end PM
