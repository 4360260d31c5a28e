/-! TOKENS: a text is n bytes ch 0 .. ch (n - 1) -/
def sb (c : Nat) : Int32 := if c < 128 then nI c else nI c - 256
theorem sb_fin : ∀ c : Fin 256, sb c.val &&& 255 = nI c.val ∧ (sb c.val).toInt = if c.val < 128 then (c.val : Int) else (c.val : Int) - 256 := by decide +kernel
theorem sb_and {c : Nat} (h : c < 256) : sb c &&& 255 = nI c := (sb_fin ⟨c, h⟩).1
theorem sb_int {c : Nat} (h : c < 256) : (sb c).toInt = if c < 128 then (c : Int) else (c : Int) - 256 := (sb_fin ⟨c, h⟩).2
theorem sb_eq {c k : Nat} (h : c < 256) (hk : k < 128) : sb c = nI k ↔ c = k := by
  rw [← Int32.toInt_inj, sb_int h, nI_toInt (by omega)]
  split <;> omega
theorem sb_lt {c k : Nat} (h : c < 256) (hk : k < 128) : sb c < nI k ↔ (c < k ∨ 128 ≤ c) := by
  rw [Int32.lt_iff_toInt_lt, sb_int h, nI_toInt (by omega)]
  split <;> omega
theorem sb_gt {c k : Nat} (h : c < 256) (hk : k < 128) : nI k < sb c ↔ (k < c ∧ c < 128) := by
  rw [Int32.lt_iff_toInt_lt, sb_int h, nI_toInt (by omega)]
  split <;> omega
def isL (c : Nat) : Bool := decide (97 ≤ c) && decide (c ≤ 122)
def isD (c : Nat) : Bool := decide (48 ≤ c) && decide (c ≤ 57)
theorem isL_iff {c : Nat} : isL c = true ↔ 97 ≤ c ∧ c ≤ 122 := by unfold isL; rw [Bool.and_eq_true, decide_eq_true_iff, decide_eq_true_iff]
theorem isD_iff {c : Nat} : isD c = true ↔ 48 ≤ c ∧ c ≤ 57 := by unfold isD; rw [Bool.and_eq_true, decide_eq_true_iff, decide_eq_true_iff]
/-- the byte at a place, 0 behind the text -/
def bt (ch : Nat → Nat) (n k : Nat) : Nat := if k < n then ch k else 0
/-- to the end of a line -/
def hsF (ch : Nat → Nat) (n : Nat) : Nat → Nat → Nat
  | 0, k => k
  | g + 1, k => if ch k = 10 then k else hsF ch n g (k + 1)
def hs (ch : Nat → Nat) (n k : Nat) : Nat := hsF ch n (n - k) k
theorem hs_end {ch : Nat → Nat} {n k : Nat} (h : n ≤ k) : hs ch n k = k := by unfold hs; rw [Nat.sub_eq_zero_of_le h]; rfl
theorem hs_nl {ch : Nat → Nat} {n k : Nat} (h : ch k = 10) : hs ch n k = k := by
  unfold hs
  cases n - k with
  | zero => rfl
  | succ g => exact if_pos h
theorem hs_go {ch : Nat → Nat} {n k : Nat} (h : k < n) (h2 : ¬ ch k = 10) : hs ch n k = hs ch n (k + 1) := by
  unfold hs
  obtain ⟨g, e⟩ : ∃ g, n - k = g + 1 := ⟨n - k - 1, by omega⟩
  have e2 : n - (k + 1) = g := by omega
  rw [e, e2]
  exact if_neg h2
theorem hsF_ge (ch : Nat → Nat) (n : Nat) : ∀ g k, k ≤ hsF ch n g k ∧ hsF ch n g k ≤ k + g
  | 0, k => ⟨Nat.le_refl _, Nat.le_refl _⟩
  | g + 1, k => by
    show k ≤ (if ch k = 10 then k else hsF ch n g (k + 1)) ∧ (if ch k = 10 then k else hsF ch n g (k + 1)) ≤ k + (g + 1)
    have := hsF_ge ch n g (k + 1)
    split <;> omega
theorem hs_ge {ch : Nat → Nat} {n k : Nat} : k ≤ hs ch n k ∧ (k ≤ n → hs ch n k ≤ n) := by
  have := hsF_ge ch n (n - k) k
  unfold hs
  omega
/-- blanks and remarks -/
def skF (ch : Nat → Nat) (n : Nat) : Nat → Nat → Nat
  | 0, k => k
  | g + 1, k => if n ≤ k then k else if ch k = 35 then skF ch n g (hs ch n k) else if ch k = 32 ∨ ch k = 10 then skF ch n g (k + 1) else k
theorem skF_fuel (ch : Nat → Nat) (n : Nat) : ∀ g g' k, n - k ≤ g → n - k ≤ g' → skF ch n g k = skF ch n g' k := by
  have fin : ∀ g k, n ≤ k → skF ch n g k = k := by
    intro g k h
    cases g with
    | zero => rfl
    | succ g => exact if_pos h
  intro g
  induction g with
  | zero =>
    intro g' k h1 h2
    have hk : n ≤ k := by omega
    rw [fin 0 k hk, fin g' k hk]
  | succ g ih =>
    intro g' k h1 h2
    by_cases hk : n ≤ k
    · rw [fin _ k hk, fin g' k hk]
    · obtain ⟨g'', rfl⟩ : ∃ g'', g' = g'' + 1 := ⟨g' - 1, by omega⟩
      show (if n ≤ k then k else if ch k = 35 then skF ch n g (hs ch n k) else if ch k = 32 ∨ ch k = 10 then skF ch n g (k + 1) else k) = (if n ≤ k then k else if ch k = 35 then skF ch n g'' (hs ch n k) else if ch k = 32 ∨ ch k = 10 then skF ch n g'' (k + 1) else k)
      rw [if_neg hk, if_neg hk]
      by_cases c : ch k = 35
      · rw [if_pos c, if_pos c]
        have e := hs_go (ch := ch) (n := n) (k := k) (by omega) (by omega)
        have := (hs_ge (ch := ch) (n := n) (k := k + 1)).1
        exact ih g'' _ (by omega) (by omega)
      · rw [if_neg c, if_neg c, ih g'' (k + 1) (by omega) (by omega)]
def sk (ch : Nat → Nat) (n k : Nat) : Nat := skF ch n (n - k) k
theorem sk_un {ch : Nat → Nat} {n k : Nat} (h : k < n) : sk ch n k = if ch k = 35 then sk ch n (hs ch n k) else if ch k = 32 ∨ ch k = 10 then sk ch n (k + 1) else k := by
  unfold sk
  obtain ⟨g, e⟩ : ∃ g, n - k = g + 1 := ⟨n - k - 1, by omega⟩
  rw [e]
  show (if n ≤ k then k else if ch k = 35 then skF ch n g (hs ch n k) else if ch k = 32 ∨ ch k = 10 then skF ch n g (k + 1) else k) = _
  rw [if_neg (by omega)]
  by_cases c : ch k = 35
  · rw [if_pos c, if_pos c]
    have e2 := hs_go (ch := ch) (n := n) (k := k) h (by omega)
    have := (hs_ge (ch := ch) (n := n) (k := k + 1)).1
    exact skF_fuel ch n _ _ _ (by omega) (by omega)
  · rw [if_neg c, if_neg c, skF_fuel ch n g (n - (k + 1)) (k + 1) (by omega) (by omega)]
theorem sk_end {ch : Nat → Nat} {n k : Nat} (h : n ≤ k) : sk ch n k = k := by unfold sk; rw [Nat.sub_eq_zero_of_le h]; rfl
/-- as long as it is one of these -/
def wlF (p : Nat → Bool) : Nat → Nat → Nat
  | 0, k => k
  | g + 1, k => if p k = true then wlF p g (k + 1) else k
/-- the end of a word, of a number -/
def wle (q : Nat → Bool) (ch : Nat → Nat) (n k : Nat) : Nat := wlF (fun k => q (bt ch n k)) (n - k) k
theorem wle_end {q : Nat → Bool} (h0 : q 0 = false) {ch : Nat → Nat} {n k : Nat} (h : ¬ q (bt ch n k) = true) : wle q ch n k = k := by
  unfold wle
  cases n - k with
  | zero => rfl
  | succ g => exact if_neg h
theorem wle_go {q : Nat → Bool} (h0 : q 0 = false) {ch : Nat → Nat} {n k : Nat} (h : q (bt ch n k) = true) : k < n ∧ wle q ch n k = wle q ch n (k + 1) := by
  have hk : k < n := by
    by_cases c : k < n
    · exact c
    · unfold bt at h
      rw [if_neg c, h0] at h
      cases h
  refine ⟨hk, ?_⟩
  unfold wle
  obtain ⟨g, e⟩ : ∃ g, n - k = g + 1 := ⟨n - k - 1, by omega⟩
  have e2 : n - (k + 1) = g := by omega
  rw [e, e2]
  exact if_pos h
/-- a word as a number -/
def wN (b : Nat) (ch : Nat → Nat) (a : Nat) : Nat → Nat
  | 0 => 0
  | m + 1 => b * wN b ch a m + (ch (a + m) - 96)
/-- digits as a number -/
def dN (ch : Nat → Nat) (a : Nat) : Nat → Nat
  | 0 => 0
  | m + 1 => 10 * dN ch a m + (ch (a + m) - 48)
def isS (c : Nat) : Bool := [123, 125, 40, 41, 91, 93, 59, 44, 61, 60, 62, 43, 45, 42, 47, 37, 38, 124, 33].contains c
def isTw (c : Nat) : Bool := [61, 33, 60, 62].contains c
/-- a token: what (0 END, 1 WORD, 2 NUMBER, 3 SIGN, 4 none), where, its number, what follows it -/
def tk (ch : Nat → Nat) (n k : Nat) : Nat × Nat × Nat × Nat :=
  let p := sk ch n k
  let c := ch p
  if n ≤ p then (0, p, 0, p)
  else if isL c = true then (if 8 < wle isL ch n p - p then (4, p, 0, wle isL ch n p) else (1, p, wN 27 ch p (wle isL ch n p - p), wle isL ch n p))
  else if isD c = true then (if 10 < wle isD ch n p - p ∨ 2147483647 < dN ch p (min 10 (wle isD ch n p - p)) then (4, p, 0, wle isD ch n p) else (2, p, dN ch p (min 10 (wle isD ch n p - p)), wle isD ch n p))
  else if isTw c = true ∧ bt ch n (p + 1) = 61 then (3, p, 256 + c, p + 2)
  else if isS c = true then (3, p, c, p + 1) else (4, p, 0, p + 1)
