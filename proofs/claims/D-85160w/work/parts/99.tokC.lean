/-! TOKENS OF THE COMPONENT; strings -/
/-- a string of plain signs -/
def strR (E : EN) (f : RH) (a : Nat) (bs : List Nat) : Prop := ∃ q t : Nat, (a < f.2.2.2 ∧ q < f.2.2.2) ∧ oc f a 34 ∧ vl f a 210 = .ref q ∧ vl f a 211 = .int 0 ∧ (t = 2 ∨ t = 3) ∧ tg f q = some (.inr t) ∧ ln f q = bs.length ∧ bs.length < 1000 ∧ (∀ i, i < bs.length → vl f q i = .int (nI (bs.getD i 0))) ∧ (∀ c ∈ bs, c < 128) ∧ eSV E 3 = .int 1
theorem strR.fz {E : EN} {f f' : RH} {a : Nat} {bs : List Nat} (h : strR E f a bs) (hF : Frz f f') : strR E f' a bs := by
  obtain ⟨q, t, ⟨h1, h2⟩, h3, h4, h5, h6, h7, h8, h9, h10, h11⟩ := h
  exact ⟨q, t, ⟨Nat.lt_of_lt_of_le h1 hF.2.2.1, Nat.lt_of_lt_of_le h2 hF.2.2.1⟩, hF.ocE h1 h3, by rw [hF.vlE h1]; exact h4, by rw [hF.vlE h1]; exact h5, h6, by rw [hF.tgE h2]; exact h7, by rw [hF.lnE h2]; exact h8, h9, fun i hi => by rw [hF.vlE h2]; exact h10 i hi, h11⟩
/-- the text as the scanner has it -/
def cTx (s : CS) (ch : Nat → Nat) (n : Nat) : Prop := s.1 18 = nI n ∧ n ≤ 1600 ∧ (∀ k, k < n → s.2.2.1 17 k = sb (ch k)) ∧ ∀ k, ch k < 256
def cfK (s s' : CS) : Prop := (∀ j, j ∉ [19, 20, 21, 22] → s'.1 j = s.1 j) ∧ s'.2 = s.2
theorem cfK.rf (s : CS) : cfK s s := ⟨fun _ _ => rfl, rfl⟩
theorem cfK.trans {s s' s'' : CS} (h : cfK s s') (k : cfK s' s'') : cfK s s'' := ⟨fun j hj => (k.1 j hj).trans (h.1 j hj), k.2.trans h.2⟩
theorem cfK.uI (s : CS) (j : Nat) (v : Int32) (hj : j ∈ [19, 20, 21, 22] := by decide) : cfK s (uI s j v) := ⟨fun i hi => uI_ne s v (fun e => hi (e ▸ hj)), rfl⟩
theorem cTx.fr {s s' : CS} {ch : Nat → Nat} {n : Nat} (h : cTx s ch n) (k : cfK s s') : cTx s' ch n := ⟨(k.1 18 (by decide)).trans h.1, h.2.1, fun i hi => by rw [k.2]; exact h.2.2.1 i hi, h.2.2.2⟩
/-- the token at hand -/
def cTk (s : CS) (t : Nat × Nat × Nat × Nat) : Prop := s.1 20 = nI t.1 ∧ s.1 21 = nI t.2.1 ∧ s.1 19 = nI t.2.2.2 ∧ (t.1 = 2 ∨ t.1 = 3 → s.1 22 = nI t.2.2.1)
/-- a fault is told -/
def cFt (s s' : CS) (k p : Nat) : Prop := ∃ s1, cfK s s1 ∧ s' = uI (uI s1 14 (nI k)) 15 (nI p)
section CTk
variable {l : Launch} {E : EN} {w : CO} {d : Nat} {s : CS} {f : RH} {Q : KO → CS → RH → Prop} {ch : Nat → Nat} {n : Nat}
theorem J_coder (hst : l.stackTraces = false) {a : Nat} {bs : List Nat} (h : strR E f a bs) (hQ : Q (.inl (some (.int 0))) s f) : EvC l E w d MJ3_coder [.ref a] s f Q := by
  obtain ⟨q, t, -, h3, h4, h5, h6, h7, h8, h9, h10, h11, h12⟩ := h
  exact eJ3_coder hst ⟨1, h12, fun c => absurd c (by decide), fun _ => ⟨h3, 0, h5, by decide, hQ⟩⟩
theorem J_latin (hst : l.stackTraces = false) {a : Nat} {bs : List Nat} (h : strR E f a bs) (hQ : Q (.inl (some (.int 1))) s f) : EvC l E w d MJ3_isLatin1 [.ref a] s f Q := by
  obtain ⟨q, t, -, h3, h4, h5, h6, h7, h8, h9, h10, h11, h12⟩ := h
  exact eJ3_isLatin1 hst ⟨1, h12, fun c => absurd c (by decide), fun _ => ⟨h3, 0, h5, fun c => absurd rfl c, fun _ => hQ⟩⟩
theorem J_length (hst : l.stackTraces = false) {a : Nat} {bs : List Nat} (h : strR E f a bs) (hQ : Q (.inl (some (.int (nI bs.length)))) s f) : EvC l E w (d + 1) MJ3_length [.ref a] s f Q := by
  obtain ⟨q, t, -, h3, h4, h5, h6, h7, h8, h9, h10, h11, h12⟩ := id h
  refine eJ3_length hst ⟨h3, q, h4, t, h7, h3, J_coder hst h ⟨_, rfl, ?_⟩⟩
  rw [h8]
  have e : nI bs.length >>> ((0 : Int32) &&& 31) = nI bs.length := by
    have e0 : (0 : Int32) &&& 31 = 0 := by decide
    rw [e0]; exact Int32.shiftRight_zero
  rw [e]; exact hQ
/-- the place of a sign in a string -/
def idxF (bs : List Nat) (c : Nat) : Nat → Nat → Option Nat
  | 0, _ => none
  | g + 1, i => if bs.getD i 256 = c then some i else idxF bs c g (i + 1)
theorem J_indexOf (hst : l.stackTraces = false) {a c : Nat} {bs : List Nat} (h : strR E f a bs) (hc : c < 256) (h0 : 0 < bs.length) (h1 : c ∈ bs → ∀ i : Nat, i < 1000 → Q (.inl (some (.int (nI i)))) s f) (h2 : ¬ c ∈ bs → Q (.inl (some (.int (-1)))) s f) : EvC l E w (d + 3) MJ3_indexOf [.ref a, .int (sb c)] s f Q := by
  obtain ⟨q, t, -, h3, h4, h5, h6, h7, h8, h9, h10, h11, h12⟩ := id h
  refine eJ3_indexOf hst ⟨h3, eJ3_indexOf_2 hst ⟨h3, J_latin hst h ⟨_, rfl, fun c => absurd c (by decide), fun _ => ⟨h3, q, h4, h3, J_length hst h ⟨_, rfl, ?_⟩⟩⟩⟩⟩
  refine eJ4_indexOf hst (eJ4_canEncode hst ⟨fun cn => ⟨_, rfl, fun z => absurd rfl z, fun _ => ⟨_, rfl, _, rfl, h2 (fun z => ?_)⟩⟩, fun cn => ⟨fun c2 => ?_, fun _ => ⟨_, rfl, fun _ => ?_, fun z => absurd z (by decide)⟩⟩⟩)
  · have := h11 c z
    rw [show (0 : Int32) = nI 0 from rfl, sb_lt hc (by decide)] at cn
    omega
  · exfalso
    rw [Int32.lt_iff_toInt_lt, sb_int hc] at c2
    have e : (255 : Int32).toInt = 255 := by decide
    rw [e] at c2
    split at c2 <;> omega
  · have hc8 : c < 128 := by
      rw [show (0 : Int32) = nI 0 from rfl, sb_lt hc (by decide)] at cn
      omega
    have esb : sb c = nI c := if_pos hc8
    rw [esb]
    intro y4 ey4
    have e4 : y4 = 0 := by rw [ey4, if_neg (by decide)]
    subst e4
    refine ⟨t, h7, fun y6 ey6 => ?_⟩
    rw [h8, if_neg (by rw [Int32.lt_iff_toInt_lt]; omega)] at ey6
    subst ey6
    have hlt : (0 : Int32) < nI bs.length := by rw [show (0 : Int32) = nI 0 from rfl, Int32.lt_iff_toInt_lt, nI_toInt (by decide), nI_toInt (by omega)]; omega
    refine ⟨fun _ => eJ4_indexOfChar hst (fun y1 ey1 => ?_), fun z => absurd hlt z⟩
    have e1 : y1 = nI c := by
      rw [ey1]
      exact (by decide +kernel : ∀ c : Fin 128, (nI c.val).toInt8.toInt32 = nI c.val) ⟨c, hc8⟩
    subst e1
    refine dn (P := fun i => (∀ j, j < i → ¬ bs.getD j 0 = c) → ExC l E w d MJ4_indexOfChar 7 [some (.ref q), none, none, some (.int (nI bs.length)), some (.int (nI c)), some (.int (nI i))] [] s f _) bs.length ?_ (fun i hi ih => ?_) (fun j hj => absurd hj (Nat.not_lt_zero j))
    · intro hno
      refine vJ4_indexOfChar_7 (pk_le bs.length bs.length (fun _ => ⟨_, rfl, _, rfl, _, rfl, h2 (fun z => ?_)⟩) (fun c => by omega) rfl rfl)
      obtain ⟨i, hi, e⟩ := List.getElem_of_mem z
      exact hno i hi (by rw [getD_lt 0 hi]; exact e)
    · intro hno
      refine vJ4_indexOfChar_7 (pk_le bs.length i (fun c => by omega) (fun _ => ⟨t, h6, h7, by rw [h8]; exact inB_n hi, nI (bs.getD i 0), by rw [nI_clamp (n := i) (by omega)]; exact h10 i hi, ?_⟩) rfl rfl)
      have hb := h11 _ (getD_mem 0 hi)
      rw [nI_1, nI_eq (by omega) (by omega)]
      refine ⟨fun e => ih (fun j hj => ?_), fun e => ⟨_, rfl, _, rfl, _, rfl, h1 (by rw [← e]; exact getD_mem 0 hi) i (by omega)⟩⟩
      by_cases e2 : j = i
      · rw [e2]; exact e
      · exact hno j (by omega)
theorem C_look (hst : l.stackTraces = false) {k : Nat} (h : cTx s ch n) (hk : k < 2 ^ 31) (hQ : Q (.inl (some (.int (sb (bt ch n k))))) s f) : EvC l E w d MX2_look [.ref (w.1 2), .int (nI k)] s f Q := by
  obtain ⟨h1, h2, h3, h4⟩ := h
  refine eX2_look hst ?_
  rw [h1]
  unfold bt at hQ
  refine pk_le n k (fun c => ?_) (fun c => ⟨inB_n (by omega), ?_⟩) rfl rfl
  · rw [if_neg (by omega)] at hQ; exact hQ
  · rw [if_pos c] at hQ
    rw [nI_clamp hk, h3 k c]; exact hQ
theorem C_isL (hst : l.stackTraces = false) {c : Nat} (hc : c < 256) (hQ : Q (.inl (some (.int (bI (isL c))))) s f) : EvC l E w d MX2_isLetter [.int (sb c)] s f Q := by
  refine eX2_isLetter hst ?_
  rw [show (97 : Int32) = nI 97 from rfl, show (122 : Int32) = nI 122 from rfl, sb_lt hc (by decide), sb_gt hc (by decide)]
  refine ⟨fun c1 => ?_, fun c1 => ⟨fun c2 => ?_, fun c2 => ?_⟩⟩
  · rw [show isL c = false from Bool.eq_false_iff.mpr (fun z => by have := isL_iff.mp z; omega)] at hQ; exact hQ
  · rw [show isL c = false from Bool.eq_false_iff.mpr (fun z => by have := isL_iff.mp z; omega)] at hQ; exact hQ
  · rw [isL_iff.mpr (by omega)] at hQ; exact hQ
theorem C_isD (hst : l.stackTraces = false) {c : Nat} (hc : c < 256) (hQ : Q (.inl (some (.int (bI (isD c))))) s f) : EvC l E w d MX2_isDigit [.int (sb c)] s f Q := by
  refine eX2_isDigit hst ?_
  rw [show (48 : Int32) = nI 48 from rfl, show (57 : Int32) = nI 57 from rfl, sb_lt hc (by decide), sb_gt hc (by decide)]
  refine ⟨fun c1 => ?_, fun c1 => ⟨fun c2 => ?_, fun c2 => ?_⟩⟩
  · rw [show isD c = false from Bool.eq_false_iff.mpr (fun z => by have := isD_iff.mp z; omega)] at hQ; exact hQ
  · rw [show isD c = false from Bool.eq_false_iff.mpr (fun z => by have := isD_iff.mp z; omega)] at hQ; exact hQ
  · rw [isD_iff.mpr (by omega)] at hQ; exact hQ
theorem C_wrongF (hst : l.stackTraces = false) {k p : Int32} (hQ : Q (.inr 1) (uI (uI s 14 k) 15 p) f) {Q' : KO → CS → RH → Prop} (hq : ∀ o s1 f2, Q' o s1 f2 = KP o (fun r => r = some (.ref (w.1 1)) ∧ Q (.inr 1) s1 f2) (fun k => Q (.inr k) s1 f2)) : EvC l E w d MX2_wrong [.ref (w.1 2), .int k, .int p] s f Q' := by
  refine eX2_wrong hst ?_
  rw [hq]; exact ⟨rfl, hQ⟩
def sgL : List Nat := [123, 125, 40, 41, 91, 93, 59, 44, 61, 60, 62, 43, 45, 42, 47, 37, 38, 124, 33]
theorem C_sgn (hst : l.stackTraces = false) {p c : Nat} (h : cTx s ch n) (hs : strR E f (eSC E 52) sgL) (h19 : s.1 19 = nI p) (h21 : s.1 21 = nI p) (hp : p < 1700) (hc : c < 256) (hbad : ¬ (isTw c = true ∧ bt ch n (p + 1) = 61) → ¬ isS c = true → Q (.inr 1) (uI (uI s 14 1) 15 (nI p)) f) (hQ : ∀ s', cfK s s' → s'.1 20 = 3 → s'.1 21 = nI p → (isTw c = true ∧ bt ch n (p + 1) = 61 → s'.1 19 = nI (p + 2) ∧ s'.1 22 = nI (256 + c)) → (¬ (isTw c = true ∧ bt ch n (p + 1) = 61) → isS c = true ∧ s'.1 19 = nI (p + 1) ∧ s'.1 22 = nI c) → Q (.inl none) s' f) : EvC l E w (d + 4) MX2_sign [.ref (w.1 2), .int (sb c)] s f Q := by
  have hb := bt_lt h.2.2.2 n (p + 1)
  have oss : oc f (eSC E 52) 34 := by obtain ⟨q, t, -, h3, _⟩ := hs; exact h3
  have hmem : c ∈ sgL ↔ isS c = true := by
    unfold isS sgL
    rw [List.contains_eq_mem, decide_eq_true_iff]
  have e1 : s.1 19 + 1 = nI (p + 1) := by rw [h19, nI_1]
  have e2 : s.1 19 + 2 = nI (p + 2) := by rw [h19, nI_l2]
  have no : ¬ (isTw c = true ∧ bt ch n (p + 1) = 61) → ExC l E w (d + 4) MX2_sign 44 [some (.ref (w.1 2)), some (.int (sb c)), none] [.int 0] s f Q := by
    intro hn
    refine vX2_sign_44 ⟨oss, J_indexOf hst hs hc (by decide) (fun hm i hi => ⟨_, rfl, fun _ => ⟨fun _ => ⟨fun _ => ?_, fun z => absurd rfl z⟩, fun z => absurd rfl z⟩, fun z => ?_⟩) (fun hm => ⟨_, rfl, fun z => absurd z (by decide), fun _ => ?_⟩)⟩
    · have hS := hmem.mp hm
      have hc8 : c < 128 := by rcases isS_mem hS with z | z | z | z | z | z | z | z | z | z | z | z | z | z | z | z | z | z | z <;> omega
      have esb : sb c = nI c := if_pos hc8
      rw [e1, esb]
      exact hQ _ (((cfK.uI s 20 _).trans (cfK.uI _ 22 _)).trans (cfK.uI _ 19 _)) rfl h21 (fun z => absurd z hn) (fun _ => ⟨hS, rfl, rfl⟩)
    · exact absurd (Int32.not_lt.mp (i32_nn i (by omega))) z
    · rw [h21]
      exact C_wrongF hst (Q := Q) (hbad hn (fun z => hm (hmem.mpr z))) (fun _ _ _ => rfl)
  have yes : isTw c = true → bt ch n (p + 1) = 61 → ExC l E w (d + 4) MX2_sign 44 [some (.ref (w.1 2)), some (.int (sb c)), none] [.int 1] s f Q := by
    intro h1 h2
    have hm : c ∈ sgL := by rcases isTw_mem h1 with rfl | rfl | rfl | rfl <;> decide
    have hc8 : c < 128 := by rcases isTw_mem h1 with z | z | z | z <;> omega
    have esb : sb c = nI c := if_pos hc8
    refine vX2_sign_44 ⟨oss, J_indexOf hst hs hc (by decide) (fun _ i hi => ⟨_, rfl, fun _ => ⟨fun z => absurd z (by decide), fun _ => ⟨fun z => absurd z (by decide), fun _ => ?_⟩⟩, fun z => ?_⟩) (fun z => absurd hm z)⟩
    · rw [e2, esb, show (256 : Int32) + nI c = nI (256 + c) from nI_add 256 c]
      exact hQ _ (((cfK.uI s 20 _).trans (cfK.uI _ 22 _)).trans (cfK.uI _ 19 _)) rfl h21 (fun _ => ⟨rfl, rfl⟩) (fun z => absurd ⟨h1, h2⟩ z)
    · exact absurd (Int32.not_lt.mp (i32_nn i (by omega))) z
  refine eX2_sign hst ?_
  rw [e1]
  refine C_look hst h (by omega) ⟨_, rfl, ?_⟩
  rw [show (61 : Int32) = nI 61 from rfl, show (33 : Int32) = nI 33 from rfl, show (60 : Int32) = nI 60 from rfl, show (62 : Int32) = nI 62 from rfl, sb_eq hb (by decide), sb_eq hc (by decide), sb_eq hc (by decide), sb_eq hc (by decide), sb_eq hc (by decide)]
  refine ⟨fun z => no (fun y => z y.2), fun z => ⟨fun e => yes (by rw [e]; rfl) z, fun n1 => ⟨fun e => yes (by rw [e]; rfl) z, fun n2 => ⟨fun e => yes (by rw [e]; rfl) z, fun n3 => ⟨fun n4 => no (fun y => ?_), fun e => yes (by rw [e]; rfl) z⟩⟩⟩⟩⟩
  rcases isTw_mem y.1 with e | e | e | e
  · exact n1 e
  · exact n2 e
  · exact n3 e
  · exact n4 e
theorem C_word (hst : l.stackTraces = false) {p : Nat} (h : cTx s ch n) (h19 : s.1 19 = nI p) (h21 : s.1 21 = nI p) (hp : p ≤ n) (hbad : ∀ s', 8 < wle isL ch n p - p → cfK s s' → Q (.inr 1) (uI (uI s' 14 1) 15 (nI p)) f) (hQ : ∀ s', ¬ 8 < wle isL ch n p - p → cfK s s' → s'.1 20 = 1 → s'.1 21 = nI p → s'.1 19 = nI (wle isL ch n p) → Q (.inl none) s' f) : EvC l E w (d + 1) MX2_word [.ref (w.1 2)] s f Q := by
  have h2 := h.2.1
  have hend := wle_ge (q := isL) (ch := ch) (n := n) (k := p)
  have main : ∀ g i (s1 : CS), n + 1 - i ≤ g → p ≤ i → wle isL ch n i = wle isL ch n p → i ≤ wle isL ch n p → cfK s s1 → s1.1 21 = nI p → s1.1 19 = nI i → ExC l E w (d + 1) MX2_word 0 [some (.ref (w.1 2))] [] s1 f Q := by
    intro g
    induction g with
    | zero => intro i s1 hg hi he hie; omega
    | succ g ih =>
      intro i s1 hg hi he hie f1 g21 g19
      have h1 := h.fr f1
      have hbi := bt_lt h.2.2.2 n i
      refine vX2_word_0 ?_
      rw [g19]
      refine C_look hst h1 (by omega) ⟨_, rfl, C_isL hst hbi ⟨_, rfl, ?_⟩⟩
      rw [g19, g21, pk_sub (show p ≤ i by omega), nI_1]
      refine ⟨fun c => ?_, fun c => ?_⟩
      · have hnd : ¬ isL (bt ch n i) = true := fun z => by rw [z] at c; exact absurd c (by decide)
        rw [wle_end (by decide) hnd] at he
        rw [← he] at hbad hQ
        exact pk_le (i - p) 8 (fun c2 => hQ _ (by omega) (f1.trans (cfK.uI _ 20 _)) rfl g21 g19) (fun c2 => C_wrongF hst (Q := Q) (hbad _ c2 f1) (fun _ _ _ => rfl)) rfl rfl
      · have hid : isL (bt ch n i) = true := by
          cases hd : isL (bt ch n i) with
          | true => rfl
          | false => rw [hd] at c; exact absurd rfl c
        obtain ⟨hin, hnx⟩ := wle_go (by decide) hid
        refine ih (i + 1) _ (by omega) (by omega) (hnx.symm.trans he) ?_ (f1.trans (cfK.uI _ 19 _)) g21 rfl
        rw [← he, hnx]; exact (wle_ge (q := isL) (ch := ch) (n := n) (k := i + 1)).1
  exact EvC.of hst (by decide) (Nat.le_of_ble_eq_true rfl) (main (n + 1 - p) p s (Nat.le_refl _) (Nat.le_refl _) rfl hend.1 (cfK.rf s) h21 h19)
theorem C_num (hst : l.stackTraces = false) {p : Nat} (h : cTx s ch n) (h19 : s.1 19 = nI p) (h21 : s.1 21 = nI p) (hp : p ≤ n) (hbad : ∀ s', (10 < wle isD ch n p - p ∨ 2147483647 < dN ch p (min 10 (wle isD ch n p - p))) → cfK s s' → Q (.inr 1) (uI (uI s' 14 1) 15 (nI p)) f) (hQ : ∀ s', ¬ (10 < wle isD ch n p - p ∨ 2147483647 < dN ch p (min 10 (wle isD ch n p - p))) → cfK s s' → s'.1 20 = 2 → s'.1 21 = nI p → s'.1 19 = nI (wle isD ch n p) → s'.1 22 = nI (dN ch p (min 10 (wle isD ch n p - p))) → Q (.inl none) s' f) : EvC l E w (d + 1) MX2_number [.ref (w.1 2)] s f Q := by
  have h2 := h.2.1
  have hend := wle_ge (q := isD) (ch := ch) (n := n) (k := p)
  have main : ∀ g i (s1 : CS), n + 1 - i ≤ g → p ≤ i → wle isD ch n i = wle isD ch n p → i ≤ wle isD ch n p → cfK s s1 → s1.1 21 = nI p → s1.1 19 = nI i → dN ch p (min 10 (i - p)) < 10 ^ (min 10 (i - p)) → ExC l E w (d + 1) MX2_number 2 [some (.ref (w.1 2)), some (.long (lN (dN ch p (min 10 (i - p))))), none] [] s1 f Q := by
    intro g
    induction g with
    | zero => intro i s1 hg hi he hie; omega
    | succ g ih =>
      intro i s1 hg hi he hie f1 g21 g19 hdn
      have h1 := h.fr f1
      have hbi := bt_lt h.2.2.2 n i
      have hp10 : (10 : Nat) ^ min 10 (i - p) ≤ 10 ^ 10 := Nat.pow_le_pow_right (by decide) (Nat.min_le_left ..)
      refine vX2_number_2 ?_
      rw [g19]
      refine C_look hst h1 (by omega) ⟨_, rfl, C_isD hst hbi ⟨_, rfl, ?_⟩⟩
      rw [g19, g21, pk_sub (show p ≤ i by omega), nI_1]
      refine ⟨fun c => ?_, fun c => ?_⟩
      · have hnd : ¬ isD (bt ch n i) = true := fun z => by rw [z] at c; exact absurd c (by decide)
        rw [wle_end (by decide) hnd] at he
        rw [← he] at hbad hQ
        refine pk_lt 10 (i - p) (fun c2 => C_wrongF hst (Q := Q) (hbad _ (Or.inl c2) f1) (fun _ _ _ => rfl)) (fun c2 => ?_) rfl rfl
        have hle : lg_cmp (lN (dN ch p (min 10 (i - p)))) 2147483647 ≤ 0 ↔ dN ch p (min 10 (i - p)) ≤ 2147483647 := by
          rw [lg_cmp_le, show (2147483647 : Int64) = lN 2147483647 from rfl, lN_le' (by omega) (by omega)]
        rw [hle]
        refine ⟨fun c3 => hQ _ (by omega) (f1.trans ((cfK.uI _ 20 _).trans (cfK.uI _ 22 _))) rfl g21 g19 ?_, fun c3 => C_wrongF hst (Q := Q) (hbad _ (Or.inr (by omega)) f1) (fun _ _ _ => rfl)⟩
        show (lN (dN ch p (min 10 (i - p)))).toInt32 = _
        rw [lN_i]
      · have hid : isD (bt ch n i) = true := by
          cases hd : isD (bt ch n i) with
          | true => rfl
          | false => rw [hd] at c; exact absurd rfl c
        obtain ⟨hin, hnx⟩ := wle_go (by decide) hid
        have eb : bt ch n i = ch i := if_pos hin
        rw [eb] at hid
        have hr := isD_iff.mp hid
        have hie2 : i + 1 ≤ wle isD ch n p := by
          rw [← he, hnx]; exact (wle_ge (q := isD) (ch := ch) (n := n) (k := i + 1)).1
        refine pk_le 10 (i - p) (fun c2 => ?_) (fun c2 => ?_) rfl rfl
        · have em : min 10 (i + 1 - p) = min 10 (i - p) := by omega
          have nx := ih (i + 1) (uI s1 19 (nI (i + 1))) (by omega) (by omega) (hnx.symm.trans he) hie2 (f1.trans (cfK.uI _ 19 _)) g21 rfl (by rw [em]; exact hdn)
          rw [em] at nx; exact nx
        · refine C_look hst h1 (by omega) ⟨_, rfl, fun y ey => ?_⟩
          have em : min 10 (i - p) = i - p := by omega
          have em2 : min 10 (i + 1 - p) = i - p + 1 := by omega
          have ed : dN ch p (i - p + 1) = 10 * dN ch p (i - p) + (ch i - 48) := by
            show 10 * dN ch p (i - p) + (ch (p + (i - p)) - 48) = _
            rw [show p + (i - p) = i by omega]
          rw [em] at hdn hp10
          have hp11 : (10 : Nat) ^ (i - p + 1) = 10 * 10 ^ (i - p) := by rw [Nat.pow_succ, Nat.mul_comm]
          have nx := ih (i + 1) (uI s1 19 (nI (i + 1))) (by omega) (by omega) (hnx.symm.trans he) hie2 (f1.trans (cfK.uI _ 19 _)) g21 rfl (by rw [em2, ed, hp11]; omega)
          have esb : sb (bt ch n i) = nI (ch i) := by rw [eb]; exact if_pos (by omega)
          have ey2 : y = lN (dN ch p (min 10 (i + 1 - p))) := by
            rw [ey, esb, em, em2, ed, nI_l64 (by omega), show (10 : Int64) = lN 10 from rfl, lN_mul, lN_add, show (48 : Int64) = lN 48 from rfl, lN_sub (by omega)]
            congr 1
            omega
          rw [ey2, g19, nI_1]; exact nx
  refine eX2_number hst ?_
  have := main (n + 1 - p) p s (Nat.le_refl _) (Nat.le_refl _) rfl hend.1 (cfK.rf s) h21 h19 (by rw [Nat.sub_self, Nat.min_zero]; exact Nat.zero_lt_one)
  rw [Nat.sub_self, Nat.min_zero] at this
  exact this
/-- the next token -/
theorem T_next (hst : l.stackTraces = false) {k : Nat} (h : cTx s ch n) (hstr : strR E f (eSC E 52) sgL) (h19 : s.1 19 = nI k) (hk : k ≤ n) (hbad : ∀ s', (tk ch n k).1 = 4 → cFt s s' 1 (tk ch n k).2.1 → Q (.inr 1) s' f) (hQ : ∀ s', ¬ (tk ch n k).1 = 4 → cfK s s' → cTk s' (tk ch n k) → Q (.inl none) s' f) : EvC l E w (d + 6) MX2_next [.ref (w.1 2)] s f Q := by
  have h2 := h.2.1
  have hkp := sk_ge (ch := ch) hk
  -- the token from its first byte on
  have tok : ∀ (s1 : CS) (p : Nat), cfK s s1 → s1.1 19 = nI p → p ≤ n → sk ch n k = p → EvC l E w (d + 5) MX2_look [.ref (w.1 2), .int (s1.1 19)] (uI s1 21 (s1.1 19)) f (fun o s1 f2 => KP o (fun r => ∃ v3 : Int32, r = some (.int v3) ∧ (((s1.1 19) < (s1.1 18) → (EvC l E w (d + 5) MX2_isLetter [.int v3] s1 f2 (fun o s4 f5 => KP o (fun r => ∃ v6 : Int32, r = some (.int v6) ∧ ((v6 = 0 → (EvC l E w (d + 5) MX2_isDigit [.int v3] s4 f5 (fun o s7 f8 => KP o (fun r => ∃ v9 : Int32, r = some (.int v9) ∧ ((v9 = 0 → (EvC l E w (d + 5) MX2_sign [.ref (w.1 2), .int v3] s7 f8 (fun o s10 f11 => KP o (fun r => r = none ∧ Q (.inl none) s10 f11) (fun k => Q (.inr k) s10 f11)))) ∧ (¬ v9 = 0 → (EvC l E w (d + 5) MX2_number [.ref (w.1 2)] s7 f8 (fun o s12 f13 => KP o (fun r => r = none ∧ Q (.inl none) s12 f13) (fun k => Q (.inr k) s12 f13)))))) (fun k => Q (.inr k) s7 f8)))) ∧ (¬ v6 = 0 → (EvC l E w (d + 5) MX2_word [.ref (w.1 2)] s4 f5 (fun o s14 f15 => KP o (fun r => r = none ∧ Q (.inl none) s14 f15) (fun k => Q (.inr k) s14 f15)))))) (fun k => Q (.inr k) s4 f5)))) ∧ (¬ (s1.1 19) < (s1.1 18) → Q (.inl none) (uI s1 20 0) f2))) (fun k => Q (.inr k) s1 f2)) := by
    intro s1 p f1 g19 hpn hsk
    have f2 : cfK s (uI s1 21 (nI p)) := f1.trans (cfK.uI _ 21 _)
    rw [g19]
    generalize hs2 : uI s1 21 (nI p) = s2 at f2
    have e19 : s2.1 19 = nI p := by rw [← hs2]; exact g19
    have e21 : s2.1 21 = nI p := by rw [← hs2]; rfl
    have h3 := h.fr f2
    have hb := bt_lt h.2.2.2 n p
    unfold tk at hbad hQ
    rw [hsk] at hbad hQ
    dsimp only at hbad hQ
    refine C_look hst h3 (by omega) ⟨_, rfl, ?_⟩
    rw [e19, h3.1]
    refine pk_lt p n (fun hp => ?_) (fun hp => ?_) rfl rfl
    · have ebt : bt ch n p = ch p := if_pos hp
      rw [if_neg (by omega)] at hbad hQ
      refine C_isL hst hb ⟨_, rfl, fun c => ?_, fun c => ?_⟩
      · have hL : ¬ isL (ch p) = true := fun z => by rw [ebt, z] at c; exact absurd c (by decide)
        rw [if_neg hL] at hbad hQ
        refine C_isD hst hb ⟨_, rfl, fun c => ?_, fun c => ?_⟩
        · have hD : ¬ isD (ch p) = true := fun z => by rw [ebt, z] at c; exact absurd c (by decide)
          rw [if_neg hD] at hbad hQ
          rw [ebt]
          refine C_sgn hst h3 hstr e19 e21 (by omega) (h.2.2.2 p) (fun n1 n2 => ?_) (fun s3 f3 g20 g21 gt gs => ⟨rfl, ?_⟩)
          · rw [if_neg n1, if_neg n2] at hbad
            exact hbad _ rfl ⟨s2, f2, rfl⟩
          · by_cases c1 : isTw (ch p) = true ∧ bt ch n (p + 1) = 61
            · rw [if_pos c1] at hQ
              exact hQ _ (by show ¬ 3 = 4; decide) (f2.trans f3) ⟨g20, g21, (gt c1).1, fun _ => (gt c1).2⟩
            · obtain ⟨gs1, gs2, gs3⟩ := gs c1
              rw [if_neg c1, if_pos gs1] at hQ
              exact hQ _ (by show ¬ 3 = 4; decide) (f2.trans f3) ⟨g20, g21, gs2, fun _ => gs3⟩
        · have hD : isD (ch p) = true := by
            rw [ebt] at c
            cases hd : isD (ch p) with
            | true => rfl
            | false => rw [hd] at c; exact absurd rfl c
          rw [if_pos hD] at hbad hQ
          refine C_num hst h3 e19 e21 hpn (fun s3 cc f3 => ?_) (fun s3 cc f3 g20 g21 g19' g22 => ⟨rfl, ?_⟩)
          · rw [if_pos cc] at hbad
            exact hbad _ rfl ⟨s3, f2.trans f3, rfl⟩
          · rw [if_neg cc] at hQ
            exact hQ _ (by show ¬ 2 = 4; decide) (f2.trans f3) ⟨g20, g21, g19', fun _ => g22⟩
      · have hL : isL (ch p) = true := by
          rw [ebt] at c
          cases hd : isL (ch p) with
          | true => rfl
          | false => rw [hd] at c; exact absurd rfl c
        rw [if_pos hL] at hbad hQ
        refine C_word hst h3 e19 e21 hpn (fun s3 cc f3 => ?_) (fun s3 cc f3 g20 g21 g19' => ⟨rfl, ?_⟩)
        · rw [if_pos cc] at hbad
          exact hbad _ rfl ⟨s3, f2.trans f3, rfl⟩
        · rw [if_neg cc] at hQ
          exact hQ _ (by show ¬ 1 = 4; decide) (f2.trans f3) ⟨g20, g21, g19', fun z => (by dsimp only at z; omega)⟩
    · rw [if_pos hp] at hQ
      exact hQ _ (by show ¬ 0 = 4; decide) (f2.trans (cfK.uI _ 20 _)) ⟨rfl, e21, e19, fun z => (by dsimp only at z; omega)⟩
  have main : ∀ m i (s1 : CS), n + 1 - i ≤ m → i ≤ n → sk ch n i = sk ch n k → cfK s s1 → s1.1 19 = nI i → ExC l E w (d + 6) MX2_next 0 [some (.ref (w.1 2)), none] [] s1 f Q := by
    intro m
    induction m with
    | zero => intro i s1 hm hi; omega
    | succ m ih =>
      intro i s1 hm hi he f1 g19
      have h1 := h.fr f1
      have hb := bt_lt h.2.2.2 n i
      refine vX2_next_0 ?_
      have hcond : ∀ {A B : Prop}, (n ≤ i → A) → (i < n → B) → ((s1.1 18 ≤ s1.1 19 → A) ∧ (¬ s1.1 18 ≤ s1.1 19 → B)) := by
        intro A B hA hB
        rw [h1.1, g19]
        exact pk_le n i hA hB rfl rfl
      refine hcond (fun c => tok s1 i f1 g19 hi (by rw [← he, sk_end c])) (fun c => ?_)
      have ebt : bt ch n i = ch i := if_pos c
      have hci := h.2.2.2 i
      have hun := sk_un (ch := ch) c
      have e32 : sb (ch i) = 32 ↔ ch i = 32 := sb_eq hci (by decide)
      have e10 : sb (ch i) = 10 ↔ ch i = 10 := sb_eq hci (by decide)
      have e35 : sb (ch i) = 35 ↔ ch i = 35 := sb_eq hci (by decide)
      have lk : ∀ {Q' : KO → CS → RH → Prop}, Q' (.inl (some (.int (sb (ch i))))) s1 f → EvC l E w (d + 5) MX2_look [.ref (w.1 2), .int (s1.1 19)] s1 f Q' := by
        intro Q' hq
        rw [g19]
        exact C_look hst h1 (by omega) (by rw [ebt]; exact hq)
      have blank : ch i = 32 ∨ ch i = 10 → ExC l E w (d + 6) MX2_next 0 [some (.ref (w.1 2)), none] [] (uI s1 19 (s1.1 19 + 1)) f Q := by
        intro hc
        rw [if_neg (by omega), if_pos hc] at hun
        refine ih (i + 1) _ (by omega) (by omega) (by rw [← hun]; exact he) (f1.trans (cfK.uI _ 19 _)) ?_
        show s1.1 19 + 1 = _
        rw [g19, nI_1]
      have hash : ch i = 35 → ExC l E w (d + 6) MX2_next 63 [some (.ref (w.1 2)), none] [] s1 f Q := by
        intro hc
        rw [if_pos hc] at hun
        have e3 := hs_go (ch := ch) (n := n) (k := i) c (by omega)
        have h3 := (hs_ge (ch := ch) (n := n) (k := i + 1)).1
        have hl : ∀ j x (s2 : CS), n - x ≤ j → x ≤ n → hs ch n x = hs ch n i → cfK s s2 → s2.1 19 = nI x → ExC l E w (d + 6) MX2_next 63 [some (.ref (w.1 2)), none] [] s2 f Q := by
          intro j
          have stop : ∀ x (s2 : CS), x ≤ n → hs ch n x = hs ch n i → hs ch n x = x → cfK s s2 → s2.1 19 = nI x → ExC l E w (d + 6) MX2_next 0 [some (.ref (w.1 2)), none] [] s2 f Q := by
            intro x s2 hx e1 e2 f2 g2
            refine ih x s2 (by omega) hx ?_ f2 g2
            rw [← he, hun, ← e1, e2]
          induction j with
          | zero =>
            intro x s2 hj hx e1 f2 g2
            have h4 := h.fr f2
            refine vX2_next_63 ?_
            rw [h4.1, g2]
            exact pk_le n x (fun c => stop x s2 hx e1 (hs_end c) f2 g2) (fun c => by omega) rfl rfl
          | succ j ihj =>
            intro x s2 hj hx e1 f2 g2
            have h4 := h.fr f2
            refine vX2_next_63 ?_
            rw [h4.1, g2]
            refine pk_le n x (fun c => stop x s2 hx e1 (hs_end c) f2 g2) (fun c => C_look hst h4 (by omega) ⟨_, rfl, ?_⟩) rfl rfl
            have ebx : bt ch n x = ch x := if_pos c
            rw [ebx, show (10 : Int32) = nI 10 from rfl, sb_eq (h.2.2.2 x) (by decide)]
            refine ⟨fun c2 => stop x s2 hx e1 (hs_nl c2) f2 g2, fun c2 => ihj (x + 1) _ (by omega) (by omega) ((hs_go c c2).symm.trans e1) (f2.trans (cfK.uI _ 19 _)) ?_⟩
            show s2.1 19 + 1 = _
            rw [g2, nI_1]
        exact hl (n - i) i s1 (Nat.le_refl _) hi rfl f1 g19
      refine lk ⟨_, rfl, fun c1 => lk ⟨_, rfl, fun _ => blank (Or.inl (e32.mp c1)), fun c2 => ?_⟩, fun c1 => lk ⟨_, rfl, fun c2 => lk ⟨_, rfl, fun _ => blank (Or.inr (e10.mp c2)), fun c3 => ?_⟩, fun c2 => lk ⟨_, rfl, fun c3 => tok s1 i f1 g19 hi ?_, fun c3 => lk ⟨_, rfl, fun c4 => absurd c3 c4, fun _ => hash (e35.mp c3)⟩⟩⟩⟩
      · have := e32.mp c1; have := e35.mp c2; omega
      · have := e10.mp c2; have := e35.mp c3; omega
      · rw [← he, hun, if_neg (fun z => c3 (e35.mpr z)), if_neg (fun z => z.elim (fun z => c1 (e32.mpr z)) (fun z => c2 (e10.mpr z)))]
  exact EvC.of hst (by decide) (Nat.le_of_ble_eq_true rfl) (main (n + 1 - k) k s (Nat.le_refl _) hk rfl (cfK.rf s) h19)
end CTk
