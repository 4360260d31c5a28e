/-! TOKENS OF THE MODEL -/
/-- the model's number of a sign -/
def mSg (v : Nat) : Nat := if v = 317 then 256 else if v = 289 then 257 else if v = 316 then 258 else if v = 318 then 259 else v
/-- the text on the model's tape -/
def mTx (s : MS) (ch : Nat → Nat) (n : Nat) : Prop := s.1 61 = nI n ∧ n ≤ 1620 ∧ (∀ k, k < n → s.2.2.1 59 k = sb (ch k)) ∧ ∀ k, ch k < 256
def mfK (s s' : MS) : Prop := (∀ j, j ∉ [62, 63, 65] → s'.1 j = s.1 j) ∧ (∀ j, ¬ j = 64 → s'.2.1 j = s.2.1 j) ∧ s'.2.2 = s.2.2
theorem mfK.rf (s : MS) : mfK s s := ⟨fun _ _ => rfl, fun _ _ => rfl, rfl⟩
theorem mfK.trans {s s' s'' : MS} (h : mfK s s') (k : mfK s' s'') : mfK s s'' := ⟨fun j hj => (k.1 j hj).trans (h.1 j hj), fun j hj => (k.2.1 j hj).trans (h.2.1 j hj), k.2.2.trans h.2.2⟩
theorem mfK.sI (s : MS) (j : Nat) (v : Int32) (hj : j ∈ [62, 63, 65] := by decide) : mfK s (sI s j v) := ⟨fun i hi => sI_ne s v (fun e => hi (e ▸ hj)), fun _ _ => rfl, rfl⟩
theorem mfK.sL (s : MS) (v : Int64) : mfK s (sL s 64 v) := ⟨fun _ _ => rfl, fun _ hj => if_neg hj, rfl⟩
theorem mTx.fr {s s' : MS} {ch : Nat → Nat} {n : Nat} (h : mTx s ch n) (k : mfK s s') : mTx s' ch n := ⟨(k.1 61 (by decide)).trans h.1, h.2.1, fun i hi => by rw [k.2.2]; exact h.2.2.1 i hi, h.2.2.2⟩
/-- the token at hand -/
def mTk (s : MS) (t : Nat × Nat × Nat × Nat) : Prop := s.1 62 = nI t.1 ∧ s.1 63 = nI t.2.1 ∧ s.1 65 = nI t.2.2.2 ∧ (t.1 = 1 ∨ t.1 = 2 → s.2.1 64 = lN t.2.2.1) ∧ (t.1 = 3 → s.2.1 64 = lN (mSg t.2.2.1))
theorem bt_lt {ch : Nat → Nat} (h : ∀ k, ch k < 256) (n k : Nat) : bt ch n k < 256 := by
  unfold bt
  split
  · exact h k
  · decide
theorem isS_mem {c : Nat} (h : isS c = true) : c = 123 ∨ c = 125 ∨ c = 40 ∨ c = 41 ∨ c = 91 ∨ c = 93 ∨ c = 59 ∨ c = 44 ∨ c = 61 ∨ c = 60 ∨ c = 62 ∨ c = 43 ∨ c = 45 ∨ c = 42 ∨ c = 47 ∨ c = 37 ∨ c = 38 ∨ c = 124 ∨ c = 33 := by
  unfold isS at h
  simp only [List.contains_eq_mem, List.mem_cons, List.not_mem_nil, or_false, decide_eq_true_eq] at h
  exact h
theorem isTw_mem {c : Nat} (h : isTw c = true) : c = 61 ∨ c = 33 ∨ c = 60 ∨ c = 62 := by
  unfold isTw at h
  simp only [List.contains_eq_mem, List.mem_cons, List.not_mem_nil, or_false, decide_eq_true_eq] at h
  exact h
theorem nI_l64 {c : Nat} (h : c < 2 ^ 31) : (nI c).toInt64 = lN c := lN_inj' (by omega) (by rw [i64_toInt, nI_toInt h])
section MTk
variable {l : Launch} {E : EN} {w : MO} {d : Nat} {s : MS} {Q : Option Value → MS → Prop} {ch : Nat → Nat} {n : Nat}
theorem M_byteAt (hst : l.stackTraces = false) {k : Nat} (h : mTx s ch n) (hk : k < 2 ^ 31) (hQ : Q (some (.int (nI (bt ch n k)))) s) : EvM l E w d MX10_byteAt [.ref w.1, .int (nI k)] s Q := by
  obtain ⟨h1, h2, h3, h4⟩ := h
  refine eX10_byteAt hst ?_
  rw [h1]
  unfold bt at hQ
  refine pk_le n k (fun c => ?_) (fun c => ⟨inB_n (by omega), ?_⟩) rfl rfl
  · rw [if_neg (by omega)] at hQ; exact hQ
  · rw [if_pos c] at hQ
    rw [nI_clamp hk, h3 k c, sb_and (h4 k)]; exact hQ
theorem M_isLetter (hst : l.stackTraces = false) {c : Nat} (hc : c < 256) (hQ : Q (some (.int (bI (isL c)))) s) : EvM l E w d MX10_isLetter [.int (nI c)] s Q := by
  refine eX10_isLetter hst (pk_lt c 97 (fun c1 => ?_) (fun c1 => pk_lt 122 c (fun c2 => ?_) (fun c2 => ?_) rfl rfl) rfl rfl)
  · rw [show isL c = false from Bool.eq_false_iff.mpr (fun z => by have := isL_iff.mp z; omega)] at hQ; exact hQ
  · rw [show isL c = false from Bool.eq_false_iff.mpr (fun z => by have := isL_iff.mp z; omega)] at hQ; exact hQ
  · rw [isL_iff.mpr ⟨c1, c2⟩] at hQ; exact hQ
theorem M_isDigit (hst : l.stackTraces = false) {c : Nat} (hc : c < 256) (hQ : Q (some (.int (bI (isD c)))) s) : EvM l E w d MX10_isDigit [.int (nI c)] s Q := by
  refine eX10_isDigit hst (pk_lt c 48 (fun c1 => ?_) (fun c1 => pk_lt 57 c (fun c2 => ?_) (fun c2 => ?_) rfl rfl) rfl rfl)
  · rw [show isD c = false from Bool.eq_false_iff.mpr (fun z => by have := isD_iff.mp z; omega)] at hQ; exact hQ
  · rw [show isD c = false from Bool.eq_false_iff.mpr (fun z => by have := isD_iff.mp z; omega)] at hQ; exact hQ
  · rw [isD_iff.mpr ⟨c1, c2⟩] at hQ; exact hQ
theorem M_begin (hst : l.stackTraces = false) {k : Nat} (h : mTx s ch n) (hk : k ≤ 1700) (hQ : Q (some (.int (nI (sk ch n k)))) s) : EvM l E w (d + 1) MX10_begin [.ref w.1, .int (nI k)] s Q := by
  have hn := h.2.1
  refine eX10_begin hst ?_
  have fin : ∀ k, k ≤ 1700 → sk ch n k = k → Q (some (.int (nI k))) s → n ≤ k ∨ ¬ (ch k = 35 ∨ ch k = 32 ∨ ch k = 10) → ExM l E w (d + 1) MX10_begin 4 [some (.ref w.1), none, some (.int (nI k)), some (.int 1), none] [] s Q := by
    intro k hk he hQ hc
    refine vX10_begin_4 ⟨fun c => absurd c (by decide), fun _ => ?_⟩
    rw [h.1]
    refine pk_le n k (fun _ => hQ) (fun c => M_byteAt hst h (by omega) ⟨_, rfl, ?_⟩) rfl rfl
    have hb : bt ch n k = ch k := if_pos c
    rw [hb]
    have h4 := h.2.2.2 k
    have hc : ¬ (ch k = 35 ∨ ch k = 32 ∨ ch k = 10) := by rcases hc with hc | hc; omega; exact hc
    refine bn_eq (ch k) 35 (fun _ => (bn_eq (ch k) 32 (fun _ => bn_eq (ch k) 10 (fun _ => vX10_begin_4 ⟨fun _ => hQ, fun c => absurd rfl c⟩) (fun c => absurd (Or.inr (Or.inr c)) hc) rfl rfl) (fun c => absurd (Or.inr (Or.inl c)) hc) rfl rfl).symm) (fun c => absurd (Or.inl c) hc) rfl rfl
  have main : ∀ m k, n + 1 - k ≤ m → k ≤ 1700 → Q (some (.int (nI (sk ch n k)))) s → ExM l E w (d + 1) MX10_begin 4 [some (.ref w.1), none, some (.int (nI k)), some (.int 1), none] [] s Q := by
    intro m
    induction m with
    | zero =>
      intro k hm hk hQ
      rw [sk_end (by omega)] at hQ
      exact fin k hk (sk_end (by omega)) hQ (Or.inl (by omega))
    | succ m ih =>
      intro k hm hk hQ
      by_cases hkn : n ≤ k
      · rw [sk_end hkn] at hQ
        exact fin k hk (sk_end hkn) hQ (Or.inl hkn)
      have hkn : k < n := by omega
      have hun := sk_un (ch := ch) hkn
      by_cases hc : ch k = 35 ∨ ch k = 32 ∨ ch k = 10
      · refine vX10_begin_4 ⟨fun c => absurd c (by decide), fun _ => ?_⟩
        rw [h.1]
        refine pk_le n k (fun c => by omega) (fun _ => M_byteAt hst h (by omega) ⟨_, rfl, ?_⟩) rfl rfl
        have hb : bt ch n k = ch k := if_pos hkn
        have h4 := h.2.2.2 k
        rw [hb, nI_1]
        refine bn_eq (ch k) 35 (fun c => ?_) (fun c => ?_) rfl rfl
        · have hb2 : ch k = 32 ∨ ch k = 10 := by omega
          rw [if_neg c, if_pos hb2] at hun
          rw [hun] at hQ
          have nx := ih (k + 1) (by omega) (by omega) hQ
          exact (bn_eq (ch k) 32 (fun c2 => bn_eq (ch k) 10 (fun c3 => by omega) (fun _ => nx) rfl rfl) (fun _ => nx) rfl rfl).symm
        · rw [if_pos c] at hun
          rw [hun] at hQ
          -- to the line's end
          have hl : ∀ j i, n - i ≤ j → i ≤ 1700 → hs ch n i = hs ch n k → ExM l E w (d + 1) MX10_begin 30 [some (.ref w.1), none, some (.int (nI i)), some (.int 1), none] [] s Q := by
            intro j
            have stop : ∀ i, i ≤ 1700 → hs ch n i = hs ch n k → hs ch n i = i → ExM l E w (d + 1) MX10_begin 4 [some (.ref w.1), none, some (.int (nI i)), some (.int 1), none] [] s Q := by
              intro i hi e1 e2
              rw [← e1, e2] at hQ
              have e3 := hs_go (ch := ch) (n := n) (k := k) hkn (by omega)
              have := (hs_ge (ch := ch) (n := n) (k := k + 1)).1
              exact ih i (by omega) hi hQ
            induction j with
            | zero =>
              intro i hj hi e1
              refine vX10_begin_30 ?_
              rw [h.1]
              exact pk_le n i (fun c => stop i hi e1 (hs_end c)) (fun c => by omega) rfl rfl
            | succ j ihj =>
              intro i hj hi e1
              refine vX10_begin_30 ?_
              rw [h.1]
              refine pk_le n i (fun c => stop i hi e1 (hs_end c)) (fun c => M_byteAt hst h (by omega) ⟨_, rfl, ?_⟩) rfl rfl
              have hb : bt ch n i = ch i := if_pos c
              have h4 := h.2.2.2 i
              rw [hb, nI_1]
              exact (bn_eq (ch i) 10 (fun c2 => ihj (i + 1) (by omega) (by omega) ((hs_go c c2).symm.trans e1)) (fun c2 => stop i hi e1 (hs_nl c2)) rfl rfl).symm
          exact hl (n - k) k (Nat.le_refl _) hk rfl
      · have e : sk ch n k = k := by rw [hun, if_neg (by omega), if_neg (by omega)]
        rw [e] at hQ
        exact fin k hk e hQ (Or.inr hc)
  exact main (n + 1 - k) k (Nat.le_refl _) hk hQ
theorem M_signAt (hst : l.stackTraces = false) {p c : Nat} (h : mTx s ch n) (h63 : s.1 63 = nI p) (hp : p < 1700) (hc : c < 256) (hQ : ∀ s', mfK s s' → s'.1 63 = nI p → (if isTw c = true ∧ bt ch n (p + 1) = 61 then s'.1 62 = 3 ∧ s'.2.1 64 = lN (mSg (256 + c)) else if isS c = true then s'.1 62 = 3 ∧ s'.2.1 64 = lN c else s'.1 62 = 4) → Q (some (.int (nI (if isTw c = true ∧ bt ch n (p + 1) = 61 then p + 2 else p + 1)))) s') : EvM l E w (d + 1) MX10_signAt [.ref w.1, .int (nI c)] s Q := by
  refine eX10_signAt hst ?_
  rw [h63, nI_1]
  have h1 : mTx (sI s 62 3) ch n := h.fr (mfK.sI s 62 3)
  refine M_byteAt hst h1 (by omega) ⟨_, rfl, ?_⟩
  have hb := bt_lt h.2.2.2 n (p + 1)
  have e63 : (sI s 62 3).1 63 = nI p := h63
  have one' : ∀ z : Prop, ¬ (isTw c = true ∧ bt ch n (p + 1) = 61) → isS c = true → ExM l E w (d + 1) MX10_signAt 218 [some (.ref w.1), some (.int (nI c)), none, none] [] (sI s 62 3) Q := by
    intro _ hn hs
    rw [if_neg hn] at hQ
    refine vX10_signAt_218 ?_
    rw [e63, nI_1, nI_l64 (by omega)]
    exact hQ _ ((mfK.sI s 62 3).trans (mfK.sL _ _)) h63 (by rw [if_neg hn, if_pos hs]; exact ⟨rfl, rfl⟩)
  have bad' : ¬ (isTw c = true ∧ bt ch n (p + 1) = 61) → ¬ isS c = true → Q (some (.int ((sI s 62 3).1 63 + 1))) (sI (sL (sI s 62 3) 64 (nI c).toInt64) 62 4) := by
    intro hn hs
    rw [if_neg hn] at hQ
    rw [e63, nI_1]
    exact hQ _ (((mfK.sI s 62 3).trans (mfK.sL _ _)).trans (mfK.sI _ 62 4)) h63 (by rw [if_neg hn, if_neg hs]; rfl)
  have tw : ∀ v : Int64, isTw c = true → bt ch n (p + 1) = 61 → v = lN (mSg (256 + c)) → Q (some (.int ((sI s 62 3).1 63 + 2))) (sL (sI s 62 3) 64 v) := by
    intro v h1 h2 hv
    rw [if_pos (show isTw c = true ∧ bt ch n (p + 1) = 61 from ⟨h1, h2⟩)] at hQ
    rw [e63, nI_l2]
    exact hQ _ ((mfK.sI s 62 3).trans (mfK.sL _ _)) h63 (by rw [if_pos (show isTw c = true ∧ bt ch n (p + 1) = 61 from ⟨h1, h2⟩)]; exact ⟨rfl, hv⟩)
  have ceq : ∀ {k : Nat}, k < 128 → nI c = nI k → c = k := fun hk e => (nI_eq (by omega) (by omega)).mp e
  refine bn_eq (bt ch n (p + 1)) 61 (fun hn => ?_) (fun hn => ?_) rfl rfl
  · have hno : ¬ (isTw c = true ∧ bt ch n (p + 1) = 61) := fun z => hn z.2
    have one : ∀ k : Nat, k < 128 → isS k = true → nI c = nI k → ExM l E w (d + 1) MX10_signAt 218 [some (.ref w.1), some (.int (nI c)), none, none] [] (sI s 62 3) Q := fun k hk hs e => one' True hno (by rw [ceq hk e]; exact hs)
    have bad := bad' hno
    refine vX10_signAt_25 ⟨fun _ => ?_, fun z => absurd rfl z⟩
    refine ⟨fun e => one 123 (by decide) (by decide) e, fun n123 => ?_⟩
    refine ⟨fun e => one 125 (by decide) (by decide) e, fun n125 => ?_⟩
    refine ⟨fun e => one 40 (by decide) (by decide) e, fun n40 => ?_⟩
    refine ⟨fun e => one 41 (by decide) (by decide) e, fun n41 => ?_⟩
    refine ⟨fun e => one 91 (by decide) (by decide) e, fun n91 => ?_⟩
    refine ⟨fun e => one 93 (by decide) (by decide) e, fun n93 => ?_⟩
    refine ⟨fun e => one 59 (by decide) (by decide) e, fun n59 => ?_⟩
    refine ⟨fun e => one 44 (by decide) (by decide) e, fun n44 => ?_⟩
    refine ⟨fun e => one 61 (by decide) (by decide) e, fun n61 => ?_⟩
    refine ⟨fun e => one 60 (by decide) (by decide) e, fun n60 => ?_⟩
    refine ⟨fun e => one 62 (by decide) (by decide) e, fun n62 => ?_⟩
    refine ⟨fun e => one 43 (by decide) (by decide) e, fun n43 => ?_⟩
    refine ⟨fun e => one 45 (by decide) (by decide) e, fun n45 => ?_⟩
    refine ⟨fun e => one 42 (by decide) (by decide) e, fun n42 => ?_⟩
    refine ⟨fun e => one 47 (by decide) (by decide) e, fun n47 => ?_⟩
    refine ⟨fun e => one 37 (by decide) (by decide) e, fun n37 => ?_⟩
    refine ⟨fun e => one 38 (by decide) (by decide) e, fun n38 => ?_⟩
    refine ⟨fun e => one 124 (by decide) (by decide) e, fun n124 => ?_⟩
    refine ⟨fun n33 => bad (fun z => ?_), fun e => one 33 (by decide) (by decide) e⟩
    have zc := isS_mem z
    rcases zc with rfl | rfl | rfl | rfl | rfl | rfl | rfl | rfl | rfl | rfl | rfl | rfl | rfl | rfl | rfl | rfl | rfl | rfl | rfl
    · exact n123 rfl
    · exact n125 rfl
    · exact n40 rfl
    · exact n41 rfl
    · exact n91 rfl
    · exact n93 rfl
    · exact n59 rfl
    · exact n44 rfl
    · exact n61 rfl
    · exact n60 rfl
    · exact n62 rfl
    · exact n43 rfl
    · exact n45 rfl
    · exact n42 rfl
    · exact n47 rfl
    · exact n37 rfl
    · exact n38 rfl
    · exact n124 rfl
    · exact n33 rfl
  · refine vX10_signAt_25 ⟨fun z => absurd z (by decide), fun _ => ?_⟩
    refine ⟨fun e => ⟨fun z => absurd e z, fun _ => tw 256 (by rw [ceq (k := 61) (by decide) e]; rfl) hn (by rw [ceq (k := 61) (by decide) e]; rfl)⟩, fun m61 => ?_⟩
    refine ⟨fun e => ⟨fun _ => ⟨fun z => absurd e z, fun _ => tw 257 (by rw [ceq (k := 33) (by decide) e]; rfl) hn (by rw [ceq (k := 33) (by decide) e]; rfl)⟩, fun z => absurd z m61⟩, fun m33 => ?_⟩
    refine ⟨fun e => ⟨fun _ => ⟨fun _ => ⟨fun z => absurd e z, fun _ => tw 258 (by rw [ceq (k := 60) (by decide) e]; rfl) hn (by rw [ceq (k := 60) (by decide) e]; rfl)⟩, fun z => absurd z m33⟩, fun z => absurd z m61⟩, fun m60 => ?_⟩
    refine ⟨fun m62 => ?_, fun e => ⟨fun _ => ⟨fun _ => ⟨fun _ => tw 259 (by rw [ceq (k := 62) (by decide) e]; rfl) hn (by rw [ceq (k := 62) (by decide) e]; rfl), fun z => absurd z m60⟩, fun z => absurd z m33⟩, fun z => absurd z m61⟩⟩
    have hno : ¬ (isTw c = true ∧ bt ch n (p + 1) = 61) := fun z => by
      rcases isTw_mem z.1 with rfl | rfl | rfl | rfl
      · exact m61 rfl
      · exact m33 rfl
      · exact m60 rfl
      · exact m62 rfl
    have one : ∀ k : Nat, k < 128 → isS k = true → nI c = nI k → ExM l E w (d + 1) MX10_signAt 218 [some (.ref w.1), some (.int (nI c)), none, none] [] (sI s 62 3) Q := fun k hk hs e => one' True hno (by rw [ceq hk e]; exact hs)
    have bad := bad' hno
    refine ⟨fun e => one 123 (by decide) (by decide) e, fun n123 => ?_⟩
    refine ⟨fun e => one 125 (by decide) (by decide) e, fun n125 => ?_⟩
    refine ⟨fun e => one 40 (by decide) (by decide) e, fun n40 => ?_⟩
    refine ⟨fun e => one 41 (by decide) (by decide) e, fun n41 => ?_⟩
    refine ⟨fun e => one 91 (by decide) (by decide) e, fun n91 => ?_⟩
    refine ⟨fun e => one 93 (by decide) (by decide) e, fun n93 => ?_⟩
    refine ⟨fun e => one 59 (by decide) (by decide) e, fun n59 => ?_⟩
    refine ⟨fun e => one 44 (by decide) (by decide) e, fun n44 => ?_⟩
    refine ⟨fun e => one 61 (by decide) (by decide) e, fun n61 => ?_⟩
    refine ⟨fun e => one 60 (by decide) (by decide) e, fun n60 => ?_⟩
    refine ⟨fun e => one 62 (by decide) (by decide) e, fun n62 => ?_⟩
    refine ⟨fun e => one 43 (by decide) (by decide) e, fun n43 => ?_⟩
    refine ⟨fun e => one 45 (by decide) (by decide) e, fun n45 => ?_⟩
    refine ⟨fun e => one 42 (by decide) (by decide) e, fun n42 => ?_⟩
    refine ⟨fun e => one 47 (by decide) (by decide) e, fun n47 => ?_⟩
    refine ⟨fun e => one 37 (by decide) (by decide) e, fun n37 => ?_⟩
    refine ⟨fun e => one 38 (by decide) (by decide) e, fun n38 => ?_⟩
    refine ⟨fun e => one 124 (by decide) (by decide) e, fun n124 => ?_⟩
    refine ⟨fun n33 => bad (fun z => ?_), fun e => one 33 (by decide) (by decide) e⟩
    have zc := isS_mem z
    rcases zc with rfl | rfl | rfl | rfl | rfl | rfl | rfl | rfl | rfl | rfl | rfl | rfl | rfl | rfl | rfl | rfl | rfl | rfl | rfl
    · exact n123 rfl
    · exact n125 rfl
    · exact n40 rfl
    · exact n41 rfl
    · exact n91 rfl
    · exact n93 rfl
    · exact n59 rfl
    · exact n44 rfl
    · exact n61 rfl
    · exact n60 rfl
    · exact n62 rfl
    · exact n43 rfl
    · exact n45 rfl
    · exact n42 rfl
    · exact n47 rfl
    · exact n37 rfl
    · exact n38 rfl
    · exact n124 rfl
    · exact n33 rfl
theorem wle_ge {q : Nat → Bool} {ch : Nat → Nat} {n k : Nat} : k ≤ wle q ch n k ∧ (k ≤ n → wle q ch n k ≤ n) := by
  have : ∀ g k, k ≤ wlF (fun k => q (bt ch n k)) g k ∧ wlF (fun k => q (bt ch n k)) g k ≤ k + g := by
    intro g
    induction g with
    | zero => intro k; exact ⟨Nat.le_refl _, Nat.le_refl _⟩
    | succ g ih =>
      intro k
      show k ≤ (if q (bt ch n k) = true then wlF (fun k => q (bt ch n k)) g (k + 1) else k) ∧ (if q (bt ch n k) = true then wlF (fun k => q (bt ch n k)) g (k + 1) else k) ≤ k + (g + 1)
      have := ih (k + 1)
      split <;> omega
  have := this (n - k) k
  unfold wle
  omega
theorem sk_ge {ch : Nat → Nat} {n k : Nat} (hk : k ≤ n) : k ≤ sk ch n k ∧ sk ch n k ≤ n := by
  have : ∀ g k, k ≤ n → k ≤ skF ch n g k ∧ skF ch n g k ≤ n := by
    intro g
    induction g with
    | zero => intro k hk; exact ⟨Nat.le_refl _, hk⟩
    | succ g ih =>
      intro k hk
      show k ≤ (if n ≤ k then k else if ch k = 35 then skF ch n g (hs ch n k) else if ch k = 32 ∨ ch k = 10 then skF ch n g (k + 1) else k) ∧ (if n ≤ k then k else if ch k = 35 then skF ch n g (hs ch n k) else if ch k = 32 ∨ ch k = 10 then skF ch n g (k + 1) else k) ≤ n
      split
      · exact ⟨Nat.le_refl _, hk⟩
      · split
        · have h1 := hs_ge (ch := ch) (n := n) (k := k)
          have := ih (hs ch n k) (h1.2 hk)
          omega
        · split
          · have := ih (k + 1) (by omega)
            omega
          · exact ⟨Nat.le_refl _, hk⟩
  exact this (n - k) k hk
theorem wle_in {q : Nat → Bool} (h0 : q 0 = false) {ch : Nat → Nat} {n : Nat} : ∀ g k j, n - k ≤ g → k ≤ j → j < wle q ch n k → q (bt ch n j) = true := by
  intro g
  induction g with
  | zero =>
    intro k j hg hk hj
    by_cases c : q (bt ch n k) = true
    · have := (wle_go h0 c).1; omega
    · rw [wle_end h0 c] at hj; omega
  | succ g ih =>
    intro k j hg hk hj
    by_cases c : q (bt ch n k) = true
    · by_cases e : j = k
      · rw [e]; exact c
      · obtain ⟨h1, h2⟩ := wle_go h0 c
        rw [h2] at hj
        exact ih (k + 1) j (by omega) (by omega) hj
    · rw [wle_end h0 c] at hj; omega
theorem M_token (hst : l.stackTraces = false) {k : Nat} (h : mTx s ch n) (hk : k ≤ n) (hQ : ∀ s', mfK s s' → mTk s' (tk ch n k) → Q none s') : EvM l E w (d + 2) MX10_token [.ref w.1, .int (nI k)] s Q := by
  have hn := h.2.1
  have h4 := h.2.2.2
  refine eX10_token hst (M_begin hst h (by omega) ⟨_, rfl, ?_⟩)
  have hkp := sk_ge (ch := ch) hk
  unfold tk at hQ
  generalize sk ch n k = p at hkp hQ
  dsimp only at hQ
  have f1 : mfK s (sL (sI s 63 (nI p)) 64 0) := (mfK.sI s 63 _).trans (mfK.sL _ _)
  generalize hs1 : sL (sI s 63 (nI p)) 64 0 = s1 at f1
  have e63 : s1.1 63 = nI p := by rw [← hs1]; rfl
  have e64 : s1.2.1 64 = 0 := by rw [← hs1]; rfl
  have h1 := h.fr f1
  refine M_byteAt hst h1 (by omega) ⟨_, rfl, fun y5 ey5 => ?_⟩
  rw [e63] at ey5
  subst ey5
  have hb := bt_lt h4 n p
  rw [e63, h1.1]
  refine pk_lt p n (fun hp => ?_) (fun hp => ?_) rfl rfl
  · have ebt : bt ch n p = ch p := if_pos hp
    rw [if_neg (by omega)] at hQ
    refine M_isLetter hst hb ⟨_, rfl, fun c => ?_, fun c => ?_⟩
    · have hL : ¬ isL (ch p) = true := fun z => by rw [ebt, z] at c; exact absurd c (by decide)
      rw [if_neg hL] at hQ
      refine M_isDigit hst hb ⟨_, rfl, fun c => ?_, fun c => ?_⟩
      · have hD : ¬ isD (ch p) = true := fun z => by rw [ebt, z] at c; exact absurd c (by decide)
        rw [if_neg hD] at hQ
        rw [ebt]
        refine M_signAt hst h1 e63 (by omega) (h4 p) (fun s2 f2 g63 g => ⟨_, rfl, hQ _ ((f1.trans f2).trans (mfK.sI _ 65 _)) ?_⟩)
        by_cases c1 : isTw (ch p) = true ∧ bt ch n (p + 1) = 61
        · rw [if_pos c1] at g
          rw [if_pos c1, if_pos c1]
          exact ⟨g.1, g63, rfl, fun z => (by dsimp only at z; omega), fun _ => g.2⟩
        · rw [if_neg c1] at g
          rw [if_neg c1, if_neg c1]
          by_cases c2 : isS (ch p) = true
          · rw [if_pos c2] at g
            rw [if_pos c2]
            refine ⟨g.1, g63, rfl, fun z => (by dsimp only at z; omega), fun _ => ?_⟩
            have e : mSg (ch p) = ch p := by
              have := h4 p
              unfold mSg
              rw [if_neg (by omega), if_neg (by omega), if_neg (by omega), if_neg (by omega)]
            show s2.2.1 64 = lN (mSg (ch p))
            rw [e]; exact g.2
          · rw [if_neg c2] at g
            rw [if_neg c2]
            exact ⟨g, g63, rfl, fun z => (by dsimp only at z; omega), fun z => (by dsimp only at z; omega)⟩
      · have hD : isD (ch p) = true := by
          rw [ebt] at c
          cases hd : isD (ch p) with
          | true => rfl
          | false => rw [hd] at c; exact absurd rfl c
        rw [if_pos hD] at hQ
        have hend := wle_ge (q := isD) (ch := ch) (n := n) (k := p)
        have main : ∀ g i (s2 : MS), n + 1 - i ≤ g → p ≤ i → wle isD ch n i = wle isD ch n p → i ≤ wle isD ch n p → mfK s1 s2 → s2.1 63 = nI p → s2.2.1 64 = lN (dN ch p (min 10 (i - p))) → dN ch p (min 10 (i - p)) < 10 ^ (min 10 (i - p)) → ExM l E w (d + 2) MX10_token 135 [some (.ref w.1), none, none, some (.int (nI i))] [] s2 Q := by
          intro g
          induction g with
          | zero => intro i s2 hg hi he hie; omega
          | succ g ih =>
            intro i s2 hg hi he hie f2 g63 g64 hdn
            have h2 := h1.fr f2
            have hbi := bt_lt h4 n i
            have hp10 : (10 : Nat) ^ min 10 (i - p) ≤ 10 ^ 10 := Nat.pow_le_pow_right (by decide) (Nat.min_le_left ..)
            refine vX10_token_135 (M_byteAt hst h2 (by omega) ⟨_, rfl, M_isDigit hst hbi ⟨_, rfl, ?_⟩⟩)
            rw [g63, pk_sub (show p ≤ i by omega)]
            refine ⟨fun c => ?_, fun c => ?_⟩
            · have hnd : ¬ isD (bt ch n i) = true := fun z => by rw [z] at c; exact absurd c (by decide)
              rw [wle_end (by decide) hnd] at he
              rw [← he] at hQ
              have hfin : ∀ v : Int32, v = nI (if 10 < i - p ∨ 2147483647 < dN ch p (min 10 (i - p)) then 4 else 2) → Q none (sI (sI s2 62 v) 65 (nI i)) := by
                intro v hv
                refine hQ _ ((f1.trans f2).trans ((mfK.sI _ 62 _).trans (mfK.sI _ 65 _))) ?_
                by_cases cc : 10 < i - p ∨ 2147483647 < dN ch p (min 10 (i - p))
                · rw [if_pos cc] at hv
                  rw [if_pos cc]
                  exact ⟨hv, g63, rfl, fun z => (by dsimp only at z; omega), fun z => (by dsimp only at z; omega)⟩
                · rw [if_neg cc] at hv
                  rw [if_neg cc]
                  exact ⟨hv, g63, rfl, fun _ => g64, fun z => (by dsimp only at z; omega)⟩
              refine pk_lt 10 (i - p) (fun c2 => hfin 4 (by rw [if_pos (Or.inl c2)]; rfl)) (fun c2 => ?_) rfl rfl
              have hle : lg_cmp (s2.2.1 64) 2147483647 ≤ 0 ↔ dN ch p (min 10 (i - p)) ≤ 2147483647 := by
                rw [lg_cmp_le, g64, show (2147483647 : Int64) = lN 2147483647 from rfl, lN_le' (by omega) (by omega)]
              rw [hle]
              exact ⟨fun c3 => hfin 2 (by rw [if_neg (by omega)]; rfl), fun c3 => hfin 4 (by rw [if_pos (Or.inr (by omega))]; rfl)⟩
            · have hid : isD (bt ch n i) = true := by
                cases hd : isD (bt ch n i) with
                | true => rfl
                | false => rw [hd] at c; exact absurd rfl c
              obtain ⟨hin, hnx⟩ := wle_go (by decide) hid
              have eb : bt ch n i = ch i := if_pos hin
              rw [eb] at hid
              have hr := isD_iff.mp hid
              have hie2 : i + 1 ≤ wle isD ch n p := by
                rw [← he, hnx]; exact (wle_ge (q := isD) (ch := ch) (n := n) (k := i + 1)).1
              rw [nI_1]
              refine pk_le 10 (i - p) (fun c2 => ?_) (fun c2 => ?_) rfl rfl
              · have em : min 10 (i + 1 - p) = min 10 (i - p) := by omega
                exact ih (i + 1) s2 (by omega) (by omega) (hnx.symm.trans he) hie2 f2 g63 (by rw [em]; exact g64) (by rw [em]; exact hdn)
              · refine M_byteAt hst h2 (by omega) ⟨_, rfl, ?_⟩
                have em : min 10 (i - p) = i - p := by omega
                have em2 : min 10 (i + 1 - p) = i - p + 1 := by omega
                have ed : dN ch p (i - p + 1) = 10 * dN ch p (i - p) + (ch i - 48) := by
                  show 10 * dN ch p (i - p) + (ch (p + (i - p)) - 48) = _
                  rw [show p + (i - p) = i by omega]
                rw [em] at g64 hdn hp10
                have hp11 : (10 : Nat) ^ (i - p + 1) = 10 * 10 ^ (i - p) := by rw [Nat.pow_succ, Nat.mul_comm]
                refine ih (i + 1) _ (by omega) (by omega) (hnx.symm.trans he) hie2 (f2.trans (mfK.sL _ _)) g63 ?_ (by rw [em2, ed, hp11]; omega)
                show ((10 * (s2.2.1 64)) + (nI (bt ch n i)).toInt64) - 48 = _
                rw [em2, ed, g64, eb, nI_l64 (by omega), show (10 : Int64) = lN 10 from rfl, lN_mul, lN_add, show (48 : Int64) = lN 48 from rfl, lN_sub (by omega)]
                congr 1
                omega
        refine main (n + 1 - p) p s1 (Nat.le_refl _) (Nat.le_refl _) rfl hend.1 (mfK.rf s1) e63 ?_ ?_
        · rw [Nat.sub_self, Nat.min_zero]; exact e64
        · rw [Nat.sub_self, Nat.min_zero]; exact Nat.zero_lt_one
    · have hL : isL (ch p) = true := by
        rw [ebt] at c
        cases hd : isL (ch p) with
        | true => rfl
        | false => rw [hd] at c; exact absurd rfl c
      rw [if_pos hL] at hQ
      have hend := wle_ge (q := isL) (ch := ch) (n := n) (k := p)
      have main : ∀ g i (s2 : MS), n + 1 - i ≤ g → p ≤ i → wle isL ch n i = wle isL ch n p → i ≤ wle isL ch n p → mfK s1 s2 → s2.1 63 = nI p → s2.2.1 64 = lN (wN 27 ch p (min 8 (i - p))) → wN 27 ch p (min 8 (i - p)) < 27 ^ (min 8 (i - p)) → ExM l E w (d + 2) MX10_token 54 [some (.ref w.1), none, none, some (.int (nI i))] [] s2 Q := by
        intro g
        induction g with
        | zero => intro i s2 hg hi he hie; omega
        | succ g ih =>
          intro i s2 hg hi he hie f2 g63 g64 hdn
          have h2 := h1.fr f2
          have hbi := bt_lt h4 n i
          have hp10 : (27 : Nat) ^ min 8 (i - p) ≤ 27 ^ 8 := Nat.pow_le_pow_right (by decide) (Nat.min_le_left ..)
          refine vX10_token_54 (M_byteAt hst h2 (by omega) ⟨_, rfl, M_isLetter hst hbi ⟨_, rfl, ?_⟩⟩)
          rw [g63, pk_sub (show p ≤ i by omega)]
          refine ⟨fun c => ?_, fun c => ?_⟩
          · have hnd : ¬ isL (bt ch n i) = true := fun z => by rw [z] at c; exact absurd c (by decide)
            rw [wle_end (by decide) hnd] at he
            rw [← he] at hQ
            have hfin : ∀ v : Int32, v = nI (if 8 < i - p then 4 else 1) → Q none (sI (sI s2 62 v) 65 (nI i)) := by
              intro v hv
              refine hQ _ ((f1.trans f2).trans ((mfK.sI _ 62 _).trans (mfK.sI _ 65 _))) ?_
              by_cases cc : 8 < i - p
              · rw [if_pos cc] at hv
                rw [if_pos cc]
                exact ⟨hv, g63, rfl, fun z => (by dsimp only at z; omega), fun z => (by dsimp only at z; omega)⟩
              · rw [if_neg cc] at hv
                rw [if_neg cc]
                refine ⟨hv, g63, rfl, fun _ => ?_, fun z => (by dsimp only at z; omega)⟩
                have em : min 8 (i - p) = i - p := by omega
                rw [em] at g64; exact g64
            exact pk_le (i - p) 8 (fun c2 => hfin 1 (by rw [if_neg (by omega)]; rfl)) (fun c2 => hfin 4 (by rw [if_pos c2]; rfl)) rfl rfl
          · have hid : isL (bt ch n i) = true := by
              cases hd : isL (bt ch n i) with
              | true => rfl
              | false => rw [hd] at c; exact absurd rfl c
            obtain ⟨hin, hnx⟩ := wle_go (by decide) hid
            have eb : bt ch n i = ch i := if_pos hin
            rw [eb] at hid
            have hr := isL_iff.mp hid
            have hie2 : i + 1 ≤ wle isL ch n p := by
              rw [← he, hnx]; exact (wle_ge (q := isL) (ch := ch) (n := n) (k := i + 1)).1
            rw [nI_1]
            refine pk_le 8 (i - p) (fun c2 => ?_) (fun c2 => ?_) rfl rfl
            · have em : min 8 (i + 1 - p) = min 8 (i - p) := by omega
              exact ih (i + 1) s2 (by omega) (by omega) (hnx.symm.trans he) hie2 f2 g63 (by rw [em]; exact g64) (by rw [em]; exact hdn)
            · refine M_byteAt hst h2 (by omega) ⟨_, rfl, ?_⟩
              have em : min 8 (i - p) = i - p := by omega
              have em2 : min 8 (i + 1 - p) = i - p + 1 := by omega
              have ed : wN 27 ch p (i - p + 1) = 27 * wN 27 ch p (i - p) + (ch i - 96) := by
                show 27 * wN 27 ch p (i - p) + (ch (p + (i - p)) - 96) = _
                rw [show p + (i - p) = i by omega]
              rw [em] at g64 hdn hp10
              have hp11 : (27 : Nat) ^ (i - p + 1) = 27 * 27 ^ (i - p) := by rw [Nat.pow_succ, Nat.mul_comm]
              refine ih (i + 1) _ (by omega) (by omega) (hnx.symm.trans he) hie2 (f2.trans (mfK.sL _ _)) g63 ?_ (by rw [em2, ed, hp11]; omega)
              show ((27 * (s2.2.1 64)) + (nI (bt ch n i)).toInt64) - 96 = _
              rw [em2, ed, g64, eb, nI_l64 (by omega), show (27 : Int64) = lN 27 from rfl, lN_mul, lN_add, show (96 : Int64) = lN 96 from rfl, lN_sub (by omega)]
              congr 1
              omega
      refine main (n + 1 - p) p s1 (Nat.le_refl _) (Nat.le_refl _) rfl hend.1 (mfK.rf s1) e63 ?_ ?_
      · rw [Nat.sub_self, Nat.min_zero]; exact e64
      · rw [Nat.sub_self, Nat.min_zero]; exact Nat.zero_lt_one
  · rw [if_pos hp] at hQ
    exact hQ _ (f1.trans ((mfK.sI _ 62 _).trans (mfK.sI _ 65 _))) ⟨rfl, e63, rfl, fun z => (by dsimp only at z; omega), fun z => (by dsimp only at z; omega)⟩
end MTk
