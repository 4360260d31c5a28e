/-! THE COMPONENT'S SCANNER: words, names, signs -/
def wbL : List (List Nat) := [[102, 110], [105, 102], [101, 108, 115, 101], [119, 104, 105, 108, 101], [102, 111, 114], [105, 110], [115, 97, 121], [114, 101, 116, 117, 114, 110], [114, 97, 105, 115, 101], [116, 114, 121], [111, 110], [114, 111, 119], [105, 111, 116, 97], [112, 97, 99, 107], [103, 114, 105, 100], [114, 111, 119, 115], [98, 111, 120], [115, 105, 122, 101], [119, 105, 100, 116, 104, 115], [107, 105, 110, 100], [115, 117, 109], [109, 97, 120], [109, 105, 110], [115, 99, 97, 110], [115, 111, 114, 116], [103, 114, 97, 100, 101], [98, 97, 99, 107], [102, 108, 97, 116], [116, 117, 114, 110], [103, 114, 111, 117, 112], [106, 111, 105, 110], [116, 97, 107, 101], [100, 114, 111, 112], [99, 117, 116], [112, 105, 99, 107], [102, 105, 110, 100], [112, 97, 100], [111, 117, 116, 101, 114], [115, 97, 109, 101], [101, 97, 99, 104], [102, 111, 108, 100]]
/-- a word's number -/
def wv (bs : List Nat) : Nat := wN 27 (fun i => bs.getD i 0) 0 bs.length
theorem wbL_ok : ∀ k : Fin 41, wv (wbL.getD k.val []) = wdL.getD k.val 0 ∧ (∀ c ∈ wbL.getD k.val [], 97 ≤ c ∧ c ≤ 122) ∧ (wbL.getD k.val []).length ≤ 8 := by decide +kernel
theorem wN_inj {b : Nat} (hb : 27 ≤ b) {ch ch' : Nat → Nat} {a a' : Nat} : ∀ m m', (∀ i, i < m → 97 ≤ ch (a + i) ∧ ch (a + i) ≤ 122) → (∀ i, i < m' → 97 ≤ ch' (a' + i) ∧ ch' (a' + i) ≤ 122) → wN b ch a m = wN b ch' a' m' → m = m' ∧ ∀ i, i < m → ch (a + i) = ch' (a' + i)
  | 0, 0, _, _, _ => ⟨rfl, fun _ h => absurd h (Nat.not_lt_zero _)⟩
  | 0, m' + 1, _, h', e => by
    have := h' m' (Nat.lt_succ_self _)
    have e : 0 = b * wN b ch' a' m' + (ch' (a' + m') - 96) := e
    omega
  | m + 1, 0, h, _, e => by
    have := h m (Nat.lt_succ_self _)
    have e : b * wN b ch a m + (ch (a + m) - 96) = 0 := e
    omega
  | m + 1, m' + 1, h, h', e => by
    have h1 := h m (Nat.lt_succ_self _)
    have h2 := h' m' (Nat.lt_succ_self _)
    have e : b * wN b ch a m + (ch (a + m) - 96) = b * wN b ch' a' m' + (ch' (a' + m') - 96) := e
    have em : (b * wN b ch a m + (ch (a + m) - 96)) % b = (b * wN b ch' a' m' + (ch' (a' + m') - 96)) % b := by rw [e]
    rw [Nat.mul_add_mod, Nat.mul_add_mod, Nat.mod_eq_of_lt (by omega), Nat.mod_eq_of_lt (by omega)] at em
    have eq : b * wN b ch a m = b * wN b ch' a' m' := by omega
    have eq2 := Nat.eq_of_mul_eq_mul_left (by omega) eq
    obtain ⟨g1, g2⟩ := wN_inj hb m m' (fun i hi => h i (by omega)) (fun i hi => h' i (by omega)) eq2
    refine ⟨by omega, fun i hi => ?_⟩
    by_cases ei : i = m
    · subst ei
      subst g1
      omega
    · exact g2 i (by omega)
/-- a name's number as the component has it -/
def cvF : Nat → Nat → Nat
  | 0, _ => 0
  | g + 1, v => 32 * cvF g (v / 27) + v % 27
def cv (v : Nat) : Nat := cvF 8 v
theorem cvF_inj : ∀ g v v', v < 27 ^ g → v' < 27 ^ g → cvF g v = cvF g v' → v = v'
  | 0, v, v', h, h', _ => by have : v < 1 := h; have : v' < 1 := h'; omega
  | g + 1, v, v', h, h', e => by
    have e : 32 * cvF g (v / 27) + v % 27 = 32 * cvF g (v' / 27) + v' % 27 := e
    have e1 : cvF g (v / 27) = cvF g (v' / 27) := by omega
    have e2 := cvF_inj g (v / 27) (v' / 27) (Nat.div_lt_of_lt_mul (by rw [Nat.mul_comm, ← Nat.pow_succ]; exact h)) (Nat.div_lt_of_lt_mul (by rw [Nat.mul_comm, ← Nat.pow_succ]; exact h')) e1
    omega
theorem cvF_lt : ∀ g v, cvF g v < 32 ^ g
  | 0, _ => Nat.one_pos
  | g + 1, v => by
    have := cvF_lt g (v / 27)
    show 32 * cvF g (v / 27) + v % 27 < 32 ^ (g + 1)
    rw [Nat.pow_succ]; omega
theorem cv_lt (v : Nat) : cv v < 2 ^ 50 := Nat.lt_trans (cvF_lt 8 v) (by decide)
theorem cv_inj {v v' : Nat} (h : v < 27 ^ 8) (h' : v' < 27 ^ 8) : cv v = cv v' ↔ v = v' := ⟨cvF_inj 8 v v' h h', fun e => by rw [e]⟩
theorem cv_shelf {v : Nat} (hv8 : v < 27 ^ 8) : (1 ≤ cv v ∧ cv v ≤ 8 ↔ 1 ≤ v ∧ v ≤ 8) ∧ (v ≤ 8 → cv v = v) := by
  have e : cv v = 32 * cvF 7 (v / 27) + v % 27 := rfl
  have e7 : cvF 7 (v / 27) = 32 * cvF 6 (v / 27 / 27) + v / 27 % 27 := rfl
  have h0 : ∀ g, cvF g 0 = 0 := by
    intro g
    induction g with
    | zero => rfl
    | succ g ih => show 32 * cvF g (0 / 27) + 0 % 27 = 0; rw [Nat.zero_div, ih]
  have hp : ∀ g u, 0 < u → u < 27 ^ g → 0 < cvF g u := by
    intro g
    induction g with
    | zero => intro u h1 h2; have : u < 1 := h2; omega
    | succ g ih =>
      intro u h1 h2
      show 0 < 32 * cvF g (u / 27) + u % 27
      by_cases hu : 0 < u / 27
      · have := ih (u / 27) hu (Nat.div_lt_of_lt_mul (by rw [Nat.mul_comm, ← Nat.pow_succ]; exact h2)); omega
      · omega
  by_cases hv : v < 27
  · have z : v / 27 = 0 := by omega
    rw [e, z, h0]
    omega
  · have := hp 7 (v / 27) (by omega) (Nat.div_lt_of_lt_mul (by rw [Nat.mul_comm, ← Nat.pow_succ]; exact hv8))
    rw [e]; omega
theorem wN_cv {ch : Nat → Nat} {a : Nat} : ∀ m g, m ≤ g → (∀ i, i < m → 97 ≤ ch (a + i) ∧ ch (a + i) ≤ 122) → wN 32 ch a m = cvF g (wN 27 ch a m)
  | 0, g, _, _ => by
    have h0 : ∀ g, cvF g 0 = 0 := by
      intro g
      induction g with
      | zero => rfl
      | succ g ih => show 32 * cvF g (0 / 27) + 0 % 27 = 0; rw [Nat.zero_div, ih]
    exact (h0 g).symm
  | m + 1, 0, h, _ => by omega
  | m + 1, g + 1, h, hl => by
    have hc := hl m (Nat.lt_succ_self _)
    show 32 * wN 32 ch a m + (ch (a + m) - 96) = 32 * cvF g ((27 * wN 27 ch a m + (ch (a + m) - 96)) / 27) + (27 * wN 27 ch a m + (ch (a + m) - 96)) % 27
    have e1 : (27 * wN 27 ch a m + (ch (a + m) - 96)) / 27 = wN 27 ch a m := by omega
    have e2 : (27 * wN 27 ch a m + (ch (a + m) - 96)) % 27 = ch (a + m) - 96 := by omega
    rw [e1, e2, wN_cv m g (by omega) (fun i hi => hl i (by omega))]
/-- a word -/
theorem tk_word {ch : Nat → Nat} {n k : Nat} (h : (tk ch n k).1 = 1) : (tk ch n k).2.2.1 = wN 27 ch (tk ch n k).2.1 ((tk ch n k).2.2.2 - (tk ch n k).2.1) ∧ (tk ch n k).2.2.2 - (tk ch n k).2.1 ≤ 8 ∧ (∀ i, i < (tk ch n k).2.2.2 - (tk ch n k).2.1 → 97 ≤ ch ((tk ch n k).2.1 + i) ∧ ch ((tk ch n k).2.1 + i) ≤ 122) ∧ (tk ch n k).2.2.1 < 27 ^ 8 := by
  unfold tk at h ⊢
  dsimp only at h ⊢
  split at h
  · exact absurd h (Nat.ne_of_beq_eq_false rfl)
  rename_i h0
  rw [if_neg h0]
  split at h
  · rename_i hl
    rw [if_pos hl]
    split at h
    · exact absurd h (Nat.ne_of_beq_eq_false rfl)
    · rename_i h8
      rw [if_neg h8]
      dsimp only
      have hw := fun i hi => wN_word (ch := ch) (n := n) (p := sk ch n k) (m := wle isL ch n (sk ch n k) - sk ch n k) (by have := (wle_ge (q := isL) (ch := ch) (n := n) (k := sk ch n k)).1; omega) (i := i) hi
      refine ⟨rfl, by omega, hw, ?_⟩
      refine Nat.lt_of_lt_of_le (wN_lt _ (fun i hi => ?_)) (Nat.pow_le_pow_right (by decide) (by omega : wle isL ch n (sk ch n k) - sk ch n k ≤ 8))
      have := hw i hi
      omega
  rename_i h1
  split at h
  · split at h <;> exact absurd h (Nat.ne_of_beq_eq_false rfl)
  split at h
  · exact absurd h (Nat.ne_of_beq_eq_false rfl)
  split at h <;> exact absurd h (Nat.ne_of_beq_eq_false rfl)
section SC
variable {l : Launch} {E : EN} {w : CO} {d : Nat} {s : CS} {f : RH} {Q : KO → CS → RH → Prop} {ch : Nat → Nat} {n : Nat}
theorem ch_fin : ∀ c : Fin 128, (((nI c.val) &&& 255).toUInt32 % 65536).toInt32 = nI c.val ∧ narrow .char (.int (nI c.val)) = .int (nI c.val) := by decide +kernel
theorem J_charAt (hst : l.stackTraces = false) {a i : Nat} {bs : List Nat} (h : strR E f a bs) (h6 : isR (eSV E 6) = true) (hi : i < bs.length) (hQ : Q (.inl (some (.int (nI (bs.getD i 0))))) s f) : EvC l E w (d + 4) MJ3_charAt [.ref a, .int (nI i)] s f Q := by
  obtain ⟨q, t, -, h3, h4, h5, h6', h7, h8, h9, h10, h11, h12⟩ := id h
  have hc := ch_fin ⟨bs.getD i 0, h11 _ (getD_mem 0 hi)⟩
  refine eJ3_charAt hst ⟨h3, J_latin hst h ⟨_, rfl, fun c => absurd c (by decide), fun _ => ⟨h3, q, h4, eJ4_charAt hst ⟨t, h7, eJ3_checkIndex hst ⟨_, rfl, h6, eJ7_checkIndex h6 hst ?_⟩⟩⟩⟩⟩
  rw [h8]
  refine ⟨fun z => absurd z (nI_pos (by omega)), fun _ => pk_lt i bs.length (fun _ => ⟨_, rfl, rfl, t, h6', h7, inB_n hi, nI (bs.getD i 0), by rw [nI_clamp (by omega)]; exact h10 i hi, ?_⟩) (fun z => absurd hi (by omega)) rfl rfl⟩
  rw [hc.1]
  exact ⟨hc.2, _, rfl, hc.2, hQ⟩
theorem C_is (hst : l.stackTraces = false) {t : Tok} {c : Nat} (h : cTk s t) (h4 : t.1 ≤ 4) (hv : t.1 = 3 → t.2.2.1 < 512) (hc : c < 512) (hQ : Q (.inl (some (.int (bI (decide (t.1 = 3 ∧ t.2.2.1 = c)))))) s f) : EvC l E w d MX2_is [.ref (w.1 2), .int (nI c)] s f Q := by
  refine eX2_is hst (bn_eq t.1 3 (fun z => ?_) (fun z => ?_) h.1 rfl)
  · rw [decide_eq_false (fun y => z y.1)] at hQ; exact hQ
  · have := hv z
    refine bn_eq t.2.2.1 c (fun y => ?_) (fun y => ?_) (h.2.2.2 (Or.inr z)) rfl
    · rw [decide_eq_false (fun q => y q.2)] at hQ; exact hQ
    · rw [decide_eq_true ⟨z, y⟩] at hQ; exact hQ
theorem C_isWord (hst : l.stackTraces = false) {a p k : Nat} (h : cTk s (tk ch n p)) (hx : cTx s ch n) (hp : p ≤ n) (hk : k < 41) (hs : strR E f a (wbL.getD k [])) (h6 : isR (eSV E 6) = true) (hQ : Q (.inl (some (.int (bI (decide ((tk ch n p).1 = 1 ∧ (tk ch n p).2.2.1 = wdL.getD k 0)))))) s f) : EvC l E w (d + 5) MX2_isWord [.ref (w.1 2), .ref a] s f Q := by
  have ht := tk_ok (ch := ch) hx.2.2.2 hp
  have h14 : (tk ch n p).1 ≤ 4 := ht.1.1
  have hn := hx.2.1
  have hwb : wv (wbL.getD k []) = wdL.getD k 0 ∧ (∀ c ∈ wbL.getD k [], 97 ≤ c ∧ c ≤ 122) ∧ (wbL.getD k []).length ≤ 8 := wbL_ok ⟨k, hk⟩
  refine eX2_isWord hst (bn_eq (tk ch n p).1 1 (fun z => ?_) (fun z => ⟨hs.choose_spec.choose_spec.2.1, J_length hst hs ⟨_, rfl, ?_⟩⟩) h.1 rfl)
  · rw [decide_eq_false (fun y => z y.1)] at hQ; exact hQ
  obtain ⟨w1, w2, w3, w4⟩ := tk_word z
  rw [h.2.1, h.2.2.1]
  rw [show (nI (tk ch n p).2.2.2 - nI (tk ch n p).2.1 : Int32) = nI ((tk ch n p).2.2.2 - (tk ch n p).2.1) from pk_sub ht.1.2.2.2.1]
  rw [← hwb.1, w1] at hQ
  have hlet : ∀ i, i < (wbL.getD k []).length → 97 ≤ (fun i => (wbL.getD k []).getD i 0) (0 + i) ∧ (fun i => (wbL.getD k []).getD i 0) (0 + i) ≤ 122 := fun i hi => by
    show 97 ≤ (wbL.getD k []).getD (0 + i) 0 ∧ (wbL.getD k []).getD (0 + i) 0 ≤ 122
    rw [Nat.zero_add]; exact hwb.2.1 _ (getD_mem 0 hi)
  have hl8 : (wbL.getD k []).length ≤ 8 := hwb.2.2
  refine pk_eq ((tk ch n p).2.2.2 - (tk ch n p).2.1) (wbL.getD k []).length (fun el => ?_) (fun el => ?_) rfl rfl
  · obtain ⟨L, eL⟩ : ∃ L, L = (wbL.getD k []).length := ⟨_, rfl⟩
    have fin : ∀ i, (∀ j, j < i → ch ((tk ch n p).2.1 + j) = (wbL.getD k []).getD j 0) → i ≤ (wbL.getD k []).length → ∀ m, (wbL.getD k []).length - i ≤ m → ExC l E w (d + 5) MX2_isWord 28 [some (.ref (w.1 2)), some (.ref a), some (.int (nI i))] [] s f Q := by
      intro i hij hi m
      induction m generalizing i with
      | zero =>
        intro hm
        have ei : i = (wbL.getD k []).length := by omega
        refine vX2_isWord_28 ⟨hs.choose_spec.choose_spec.2.1, J_length hst hs ⟨_, rfl, pk_le (wbL.getD k []).length i (fun _ => ?_) (fun z => absurd z (by omega)) rfl rfl⟩⟩
        have e : wN 27 ch (tk ch n p).2.1 ((tk ch n p).2.2.2 - (tk ch n p).2.1) = wv (wbL.getD k []) := by
          unfold wv
          rw [el]
          have gen : ∀ m, m ≤ (wbL.getD k []).length → wN 27 ch (tk ch n p).2.1 m = wN 27 (fun i => (wbL.getD k []).getD i 0) 0 m := by
            intro m
            induction m with
            | zero => intro _; rfl
            | succ m ihm =>
              intro hm
              show 27 * wN 27 ch (tk ch n p).2.1 m + (ch ((tk ch n p).2.1 + m) - 96) = 27 * wN 27 (fun i => (wbL.getD k []).getD i 0) 0 m + ((wbL.getD k []).getD (0 + m) 0 - 96)
              rw [ihm (by omega), hij m (by omega), Nat.zero_add]
          exact gen _ (Nat.le_refl _)
        rw [decide_eq_true ⟨z, e⟩] at hQ; exact hQ
      | succ m ih =>
        intro hm
        by_cases ei : i = (wbL.getD k []).length
        · exact ih i hij hi (by omega)
        have hi' : i < (wbL.getD k []).length := by omega
        have hin : (tk ch n p).2.1 + i < n := by have := ht.1.2.2.2.2; omega
        refine vX2_isWord_28 ⟨hs.choose_spec.choose_spec.2.1, J_length hst hs ⟨_, rfl, pk_le (wbL.getD k []).length i (fun z => absurd z (by omega)) (fun _ => ?_) rfl rfl⟩⟩
        rw [h.2.1, nI_add, nI_clamp (by omega)]
        refine ⟨inB_n (by omega), hs.choose_spec.choose_spec.2.1, J_charAt hst hs h6 hi' ⟨_, rfl, ?_⟩⟩
        rw [hx.2.2.1 _ hin]
        have hb := (hwb.2.1 _ (getD_mem 0 hi'))
        have hcl := w3 i (by omega)
        have esb : sb (ch ((tk ch n p).2.1 + i)) = nI (ch ((tk ch n p).2.1 + i)) := if_pos (by omega)
        rw [esb]
        refine pk_eq (ch ((tk ch n p).2.1 + i)) ((wbL.getD k []).getD i 0) (fun y => ?_) (fun y => ?_) rfl rfl (by omega) (by omega)
        · rw [← nI_succ]
          refine ih (i + 1) (fun j hj => ?_) (by omega) (by omega)
          by_cases ej : j = i
          · rw [ej]; exact y
          · exact hij j (by omega)
        · have hne : ¬ ((tk ch n p).1 = 1 ∧ wN 27 ch (tk ch n p).2.1 ((tk ch n p).2.2.2 - (tk ch n p).2.1) = wv (wbL.getD k [])) := fun q => y (by
            obtain ⟨-, g⟩ := wN_inj (Nat.le_refl 27) _ _ w3 hlet q.2
            have := g i (by omega)
            rw [this]
            show (wbL.getD k []).getD (0 + i) 0 = _
            rw [Nat.zero_add])
          rw [decide_eq_false hne] at hQ; exact hQ
    exact fin 0 (fun j hj => absurd hj (Nat.not_lt_zero _)) (Nat.zero_le _) _ (Nat.le_refl _)
  · have hne : ¬ ((tk ch n p).1 = 1 ∧ wN 27 ch (tk ch n p).2.1 ((tk ch n p).2.2.2 - (tk ch n p).2.1) = wv (wbL.getD k [])) := fun q => el (wN_inj (Nat.le_refl 27) _ _ w3 hlet q.2).1
    rw [decide_eq_false hne] at hQ; exact hQ
end SC
