/-! THE COMPONENT: scan, sort, grade -/
/-- a new array of INTS, the first ones known -/
def IA (f0 : RH) (n : Nat) (L : List Int32) (f : RH) : Prop := ∃ g : Nat → Value, f = fpush f0 (.inr 0, n, g) n ∧ ∀ i, i < L.length → g i = .int (L.getD i 0)
theorem IA.fa (f0 : RH) (n : Nat) (L : List Int32) : IA f0 n L (fA f0 n L) := ⟨lv L, rfl, fun _ _ => rfl⟩
theorem IA.zero (f0 : RH) (n : Nat) : IA f0 n (List.replicate n 0) (fnewA f0 0 n) := ⟨_, rfl, fun i hi => by
  rw [List.length_replicate] at hi
  rw [rep_getD n i 0 hi]; rfl⟩
theorem IA.clone {f : RH} {z b q : Nat} {a : List Int32} (h : rcI f.2.2.1 z b (.ref q) a) : IA f a.length a (fpush f (.inr 0, ln f q, vl f q) (ln f q)) := by
  obtain ⟨q', v1, v2, v3, v4, v5⟩ := h.vw
  cases v1
  exact ⟨vl f q, by rw [v4], v5⟩
theorem IA.at {f0 f : RH} {n : Nat} {L : List Int32} (h : IA f0 n L f) : tg f f0.1 = some (.inr 0) ∧ ln f f0.1 = n ∧ ∀ i, i < L.length → vl f f0.1 i = .int (L.getD i 0) := by
  obtain ⟨g, rfl, hg⟩ := h
  obtain ⟨c1, c2, c3⟩ := cellv (cell_push f0 (.inr 0, n, g) n)
  exact ⟨c1, c2, fun i hi => (c3 i).trans (hg i hi)⟩
theorem IA.gw {f0 f : RH} {n : Nat} {L : List Int32} (h : IA f0 n L f) : Gw f0 f (n + 1) := by
  obtain ⟨g, rfl, hg⟩ := h
  exact Gw.push f0 _ n
theorem IA.eqs {f0 f : RH} {n : Nat} {L : List Int32} (h : IA f0 n L f) : f.1 = f0.1 + 1 ∧ f.2.1 = f0.2.1 + (n + 1) ∧ f.2.2.2 = f0.2.2.2 := by
  obtain ⟨g, rfl, hg⟩ := h
  exact ⟨rfl, rfl, rfl⟩
theorem IA.rI {E : EN} {f0 f : RH} {n : Nat} {L : List Int32} (h : IA f0 n L f) (hz : ez E ≤ f0.1) (hl : L.length = n) : rcI f.2.2.1 (ez E) f.1 (.ref f0.1) L :=
  rcI.of ⟨hz, by rw [h.eqs.1]; exact Nat.lt_succ_self _⟩ h.at.1 (by rw [h.at.2.1, hl]) h.at.2.2
theorem IA.set {f0 f : RH} {n k : Nat} {L : List Int32} (h : IA f0 n L f) (hk : k < L.length) (v : Int32) : IA f0 n (L.set k v) (fset f f0.1 k (.int v)) := by
  obtain ⟨g, rfl, hg⟩ := h
  refine ⟨vup g k (.int v), fset_push f0 _ _ _ _ _ _, fun i hi => ?_⟩
  rw [List.length_set] at hi
  have := congrFun (lvl_set L k v hk) i
  show (if i = k then Value.int v else g i) = _
  have e : (if i = k then Value.int v else lv L i) = .int ((L.set k v).getD i 0) := this
  rw [← e]
  by_cases c : i = k
  · rw [if_pos c, if_pos c]
  · rw [if_neg c, if_neg c]; exact hg i hi
theorem IA.snoc {f0 f : RH} {n : Nat} {L : List Int32} (h : IA f0 n L f) (v : Int32) : IA f0 n (L ++ [v]) (fset f f0.1 L.length (.int v)) := by
  obtain ⟨g, rfl, hg⟩ := h
  refine ⟨vup g L.length (.int v), fset_push f0 _ _ _ _ _ _, fun i hi => ?_⟩
  show (if i = L.length then Value.int v else g i) = _
  by_cases c : i = L.length
  · rw [if_pos c, c, getD_last]
  · have hi' : i < L.length := by rw [List.length_append] at hi; have : i < L.length + 1 := hi; omega
    rw [if_neg c, getD_app1 _ _ hi']; exact hg i hi'
theorem set_mid {α : Type} (B : List α) (h v : α) : ∀ A : List α, (A ++ h :: B).set A.length v = A ++ v :: B
  | [] => rfl
  | x :: r => by
    show x :: (r ++ h :: B).set r.length v = _
    rw [set_mid B h v r]; rfl
theorem getD_mid {α : Type} (A B : List α) (h d : α) : (A ++ h :: B).getD A.length d = h := by
  have := getD_app2 A (h :: B) d 0
  rw [Nat.add_zero] at this
  rw [this]; rfl
theorem take_getD_drop {α : Type} (S : List α) (d : α) (i : Nat) (h : i < S.length) : S.drop i = S.getD i d :: S.drop (i + 1) := by
  rw [getD_lt d h]
  exact List.drop_eq_getElem_cons h
/-- where an INT comes -/
theorem zins_at {key : Int32 → Int32} {v : Int32} : ∀ (R : List Int32) (m : Nat), m ≤ R.length → (∀ j, j < m → key v < key (R.getD j 0)) → (m < R.length → ¬ key v < key (R.getD m 0)) → zins key v R = R.take m ++ v :: R.drop m
  | [], m, h, _, _ => by
    have : m = 0 := Nat.le_zero.mp h
    subst this; rfl
  | x :: r, 0, _, _, h3 => by
    show (if key v < key x then _ else _) = _
    have h3 : ¬ key v < key x := h3 (Nat.succ_pos _)
    rw [if_neg h3]; rfl
  | x :: r, m + 1, h1, h2, h3 => by
    show (if key v < key x then x :: zins key v r else _) = _
    have h20 : key v < key x := h2 0 (Nat.succ_pos _)
    rw [if_pos h20, zins_at r m (Nat.le_of_succ_le_succ h1) (fun j hj => h2 (j + 1) (Nat.succ_lt_succ hj)) (fun hm => h3 (Nat.succ_lt_succ hm))]; rfl
theorem getD_rev (S : List Int32) {j : Nat} (h : j < S.length) : S.reverse.getD j 0 = S.getD (S.length - 1 - j) 0 := by
  rw [getD_lt 0 (by rw [List.length_reverse]; exact h), List.getElem_reverse, getD_lt 0 (by omega)]
theorem zsort_ins {key : Int32 → Int32} {v : Int32} {l : List Int32} {i : Nat} (h1 : i ≤ (zsort key l).length) (h2 : ∀ j, i ≤ j → j < (zsort key l).length → key v < key ((zsort key l).getD j 0)) (h3 : 0 < i → ¬ key v < key ((zsort key l).getD (i - 1) 0)) : zsort key (l ++ [v]) = (zsort key l).take i ++ v :: (zsort key l).drop i := by
  rw [zsort_snoc]
  generalize zsort key l = S at *
  have hl : S.reverse.length = S.length := List.length_reverse ..
  rw [zins_at S.reverse (S.length - i) (by omega) (fun j hj => ?_) (fun hm => ?_)]
  · rw [List.reverse_append, List.reverse_cons, List.take_reverse, List.drop_reverse, List.reverse_reverse, List.reverse_reverse]
    have : S.length - (S.length - i) = i := by omega
    rw [this, List.append_assoc]; rfl
  · rw [getD_rev S (by omega)]
    exact h2 _ (by omega) (by omega)
  · rw [hl] at hm
    rw [getD_rev S (by omega)]
    have := h3 (by omega)
    have e : S.length - 1 - (S.length - i) = i - 1 := by omega
    rw [e]; exact this
section CSo
variable {l : Launch} {E : EN} {w : CO} {d : Nat} {s : CS} {f : RH} {Q : KO → CS → RH → Prop}
theorem C_scanned (hst : l.stackTraces = false) {q b : Nat} {a : List Int32} (ha : rcI f.2.2.1 (ez E) b (.ref q) a) (hl : a.length ≤ 64) (hroom : f.2.1 + 70 ≤ BM) (hcb : f.2.2.2 ≤ f.1) (hz : ez E ≤ f.1) (hQ : ∀ f', IA f a.length (zscan 0 a) f' → Q (.inl (some (.ref f.1))) s f') : EvC l E w (d + 1) MX7_scanned [.ref q] s f Q := by
  obtain ⟨q', v1, v2, v3, v4, v5⟩ := ha.vw
  cases v1
  refine eX7_scanned hst ⟨v3, v2.1, fun i hi => ⟨_, v5 i (by omega)⟩, (by show f.2.1 + 1 + ln f q ≤ BM; omega), fun a1 f2 e1 e2 => ?_⟩
  have hI := IA.clone ha
  rw [← e2] at hI
  subst e1
  refine ⟨hI.at.1, hz, ?_⟩
  have hsl := zscan_len 0 a
  cases ha0 : a.length with
  | zero =>
    have : a = [] := List.eq_nil_of_length_eq_zero ha0
    subst this
    refine vX7_scanned_10 ⟨0, hI.at.1, ?_⟩
    rw [hI.at.2.1]
    exact pk_le 0 1 (fun _ => hQ f2 hI) (fun c => by omega) rfl rfl
  | succ n =>
    refine dn (P := fun i => ∀ fk, IA f a.length ((zscan 0 a).take (i + 1) ++ a.drop (i + 1)) fk → ExC l E w (d + 1) MX7_scanned 10 [none, some (.ref f.1), some (.int (nI (i + 1)))] [] s fk Q) n ?_ (fun i hi ih => ?_) f2 ?_
    · intro fk hk
      rw [List.take_of_length_le (by omega), List.drop_of_length_le (by omega), List.append_nil] at hk
      refine vX7_scanned_10 ⟨0, hk.at.1, ?_⟩
      rw [hk.at.2.1]
      exact pk_le a.length (n + 1) (fun _ => hQ fk hk) (fun c => by omega) rfl rfl
    · intro fk hk
      have hlt : ((zscan 0 a).take (i + 1)).length = i + 1 := by rw [List.length_take]; omega
      have hlen : ((zscan 0 a).take (i + 1) ++ a.drop (i + 1)).length = a.length := by rw [List.length_append, hlt, List.length_drop]; omega
      have hdr := take_getD_drop a 0 (i + 1) (by omega)
      have g1 : ((zscan 0 a).take (i + 1) ++ a.drop (i + 1)).getD (i + 1) 0 = a.getD (i + 1) 0 := by
        rw [hdr]
        have := getD_mid ((zscan 0 a).take (i + 1)) (a.drop (i + 1 + 1)) (a.getD (i + 1) 0) 0
        rw [hlt] at this
        exact this
      have g2 : ((zscan 0 a).take (i + 1) ++ a.drop (i + 1)).getD i 0 = (zscan 0 a).getD i 0 := by
        rw [getD_app1 _ _ (by omega), getD_lt 0 (by omega), List.getElem_take, getD_lt 0 (by omega)]
      refine vX7_scanned_10 ⟨0, hk.at.1, ?_⟩
      rw [hk.at.2.1, nI_clamp (by omega), show nI (i + 1) - 1 = nI i from nI_pred i, nI_clamp (by omega)]
      refine pk_le a.length (i + 1) (fun c => by omega) (fun _ => ⟨hk.at.1, inB_n (by omega), _, hk.at.2.2 (i + 1) (by omega), hk.at.1, inB_n (by omega), _, hk.at.2.2 i (by omega), hk.at.1, inB_n (by omega), by rw [hk.eqs.2.2]; exact hcb, fun f6 e => ?_⟩) rfl rfl
      rw [g1, g2] at e
      have hs := hk.set (k := i + 1) (by omega) (a.getD (i + 1) 0 + (zscan 0 a).getD i 0)
      have hv : a.getD (i + 1) 0 + (zscan 0 a).getD i 0 = (zscan 0 a).getD (i + 1) 0 := by
        rw [zscan_at a 0 i (by omega), zscan_at a 0 (i + 1) (by omega), take_succ_getD a 0 (i + 1) (by omega), List.foldl_append]
        exact Int32.add_comm _ _
      rw [hdr] at hs
      have hm := set_mid (a.drop (i + 1 + 1)) (a.getD (i + 1) 0) ((zscan 0 a).getD (i + 1) 0) ((zscan 0 a).take (i + 1))
      rw [hlt] at hm
      rw [hv, hm] at hs
      rw [e, hv, nI_1]
      refine ih _ ?_
      rw [take_succ_getD (zscan 0 a) 0 (i + 1) (by omega), List.append_assoc]
      exact hs
    · have h1 : (zscan 0 a).take (0 + 1) ++ a.drop (0 + 1) = a := by
        cases a with
        | nil => cases ha0
        | cons x r =>
          show ((0 + x) :: zscan (0 + x) r).take 1 ++ r = _
          rw [Int32.zero_add]; rfl
      rw [h1]; exact hI
theorem C_sorted (hst : l.stackTraces = false) {q b : Nat} {a : List Int32} (ha : rcI f.2.2.1 (ez E) b (.ref q) a) (hl : a.length ≤ 64) (hroom : f.2.1 + 70 ≤ BM) (hcb : f.2.2.2 ≤ f.1) (hz : ez E ≤ f.1) (hQ : ∀ f', IA f a.length (zsort id a) f' → Q (.inl (some (.ref f.1))) s f') : EvC l E w (d + 1) MX7_sorted [.ref q] s f Q := by
  obtain ⟨q', v1, v2, v3, v4, v5⟩ := ha.vw
  cases v1
  refine eX7_sorted hst ⟨v3, v2.1, fun i hi => ⟨_, v5 i (by omega)⟩, (by show f.2.1 + 1 + ln f q ≤ BM; omega), fun a1 f2 e1 e2 => ?_⟩
  have hI := IA.clone ha
  rw [← e2] at hI
  subst e1
  refine ⟨hI.at.1, hz, ?_⟩
  have outer : ∀ m k, k + m = a.length → ∀ fk, IA f a.length (zsort id (a.take k) ++ a.drop k) fk → ExC l E w (d + 1) MX7_sorted 10 [none, some (.ref f.1), some (.int (nI k)), none, none] [] s fk Q := by
    intro m
    induction m with
    | zero =>
      intro k hk fk hA
      have hk : k = a.length := hk
      subst hk
      rw [List.take_length, List.drop_length, List.append_nil] at hA
      refine vX7_sorted_10 ⟨0, hA.at.1, ?_⟩
      rw [hA.at.2.1]
      exact pk_le a.length a.length (fun _ => hQ fk hA) (fun c => by omega) rfl rfl
    | succ m ih =>
      intro k hk fk hA
      have hS : (zsort id (a.take k)).length = k := by rw [zsort_len, List.length_take]; omega
      have hdr := take_getD_drop a 0 k (by omega)
      have hkl : (zsort id (a.take k) ++ a.drop k).length = a.length := by rw [List.length_append, hS, List.length_drop]; omega
      have hgk : (zsort id (a.take k) ++ a.drop k).getD k 0 = a.getD k 0 := by
        rw [hdr]
        have := getD_mid (zsort id (a.take k)) (a.drop (k + 1)) (a.getD k 0) 0
        rw [hS] at this
        exact this
      have htk := take_succ_getD a 0 k (by omega)
      refine vX7_sorted_10 ⟨0, hA.at.1, ?_⟩
      rw [hA.at.2.1, nI_clamp (by omega)]
      refine pk_le a.length k (fun c => by omega) (fun _ => ⟨hA.at.1, inB_n (by omega), _, hA.at.2.2 k (by omega), ?_⟩) rfl rfl
      rw [hgk]
      generalize hv : a.getD k 0 = v at *
      generalize hSe : zsort id (a.take k) = S at *
      have inner : ∀ i, i ≤ k → ∀ (h0 : Int32) fk, (∀ j, i ≤ j → j < k → v < S.getD j 0) → IA f a.length (S.take i ++ h0 :: (S.drop i ++ a.drop (k + 1))) fk → ExC l E w (d + 1) MX7_sorted 23 [none, some (.ref f.1), some (.int (nI k)), some (.int v), some (.int (nI i))] [] s fk Q := by
        intro i
        induction i with
        | zero =>
          intro _ h0 fk hgt hB
          have hput := hB.set (k := 0) (Nat.succ_pos _) v
          have hfin : zsort id (a.take (k + 1)) ++ a.drop (k + 1) = v :: (S.drop 0 ++ a.drop (k + 1)) := by
            rw [htk, zsort_ins (i := 0) (Nat.zero_le _) (fun j _ hj => by rw [hSe] at hj ⊢; exact hgt j (Nat.zero_le _) (by omega)) (fun c => absurd c (Nat.lt_irrefl 0)), hSe]
            rfl
          refine vX7_sorted_23 (pk_le 0 0 (fun _ => ⟨hB.at.1, by rw [hB.at.2.1]; exact inB_n (n := 0) (by omega), by rw [hB.eqs.2.2]; exact hcb, fun f5 e => ?_⟩) (fun c => by omega) rfl rfl)
          rw [e, nI_1]
          refine ih (k + 1) (by omega) _ ?_
          rw [hfin]
          exact hput
        | succ i ihi =>
          intro hik h0 fk hgt hB
          have hti : (S.take (i + 1)).length = i + 1 := by rw [List.length_take]; omega
          have hlen : (S.take (i + 1) ++ h0 :: (S.drop (i + 1) ++ a.drop (k + 1))).length = a.length := by
            rw [List.length_append, List.length_cons, List.length_append, hti, List.length_drop, List.length_drop]; omega
          have hgi : (S.take (i + 1) ++ h0 :: (S.drop (i + 1) ++ a.drop (k + 1))).getD i 0 = S.getD i 0 := by
            rw [getD_app1 _ _ (by omega), getD_lt 0 (by omega), List.getElem_take, getD_lt 0 (by omega)]
          have hset : ∀ x : Int32, (S.take (i + 1) ++ h0 :: (S.drop (i + 1) ++ a.drop (k + 1))).set (i + 1) x = S.take (i + 1) ++ x :: (S.drop (i + 1) ++ a.drop (k + 1)) := fun x => by
            have := set_mid (S.drop (i + 1) ++ a.drop (k + 1)) h0 x (S.take (i + 1))
            rw [hti] at this
            exact this
          refine vX7_sorted_23 ?_
          rw [hB.at.2.1, show nI (i + 1) - 1 = nI i from nI_pred i, nI_clamp (by omega), nI_clamp (by omega)]
          refine pk_le (i + 1) 0 (fun c => by omega) (fun _ => ⟨hB.at.1, inB_n (by omega), S.getD i 0, by rw [← hgi]; exact hB.at.2.2 i (by omega), ?_⟩) rfl rfl
          refine ⟨fun c => ⟨hB.at.1, inB_n (by omega), by rw [hB.eqs.2.2]; exact hcb, fun f7 e => ?_⟩, fun c => ⟨hB.at.1, inB_n (by omega), S.getD i 0, by rw [← hgi]; exact hB.at.2.2 i (by omega), hB.at.1, inB_n (by omega), by rw [hB.eqs.2.2]; exact hcb, fun f9 e => ?_⟩⟩
          · have hput := hB.set (k := i + 1) (by omega) v
            rw [hset] at hput
            have hfin : zsort id (a.take (k + 1)) ++ a.drop (k + 1) = S.take (i + 1) ++ v :: (S.drop (i + 1) ++ a.drop (k + 1)) := by
              rw [htk, zsort_ins (i := i + 1) (by rw [hSe]; omega) (fun j h1 hj => by rw [hSe] at hj ⊢; exact hgt j h1 (by omega)) (fun _ => by rw [hSe]; exact Int32.not_lt.mpr c), hSe, List.append_assoc]
              rfl
            rw [e, nI_1]
            refine ih (k + 1) (by omega) _ ?_
            rw [hfin]
            exact hput
          · have hput := hB.set (k := i + 1) (by omega) (S.getD i 0)
            rw [hset] at hput
            rw [e, pk_m1]
            refine ihi (by omega) (S.getD i 0) _ (fun j h1 hj => ?_) ?_
            · by_cases ej : j = i
              · rw [ej]; exact Int32.not_le.mp c
              · exact hgt j (by omega) hj
            · have e1 := take_succ_getD S 0 i (by omega)
              have e2 := take_getD_drop S 0 i (by omega)
              rw [e2, List.cons_append]
              rw [e1, List.append_assoc] at hput
              exact hput
      refine inner k (Nat.le_refl k) v fk (fun j h1 h2 => by omega) ?_
      have e3 : S.take k ++ v :: (S.drop k ++ a.drop (k + 1)) = S ++ a.drop k := by
        rw [List.take_of_length_le (by omega), List.drop_of_length_le (by omega), hdr]; rfl
      rw [e3]; exact hA
  cases ha0 : a.length with
  | zero =>
    have : a = [] := List.eq_nil_of_length_eq_zero ha0
    subst this
    refine vX7_sorted_10 ⟨0, hI.at.1, ?_⟩
    rw [hI.at.2.1]
    exact pk_le 0 1 (fun _ => hQ f2 hI) (fun c => by omega) rfl rfl
  | succ n =>
    refine outer n 1 (by omega) f2 ?_
    have h1 : zsort id (a.take 1) ++ a.drop 1 = a := by
      cases a with
      | nil => cases ha0
      | cons x r => rfl
    rw [h1]; exact hI
theorem C_grade (hst : l.stackTraces = false) {q b : Nat} {r : List Int32} (ha : rcI f.2.2.1 (ez E) b (.ref q) r) (hqf : q < f.1) (hl : r.length ≤ 64) (hroom : f.2.1 + 70 ≤ BM) (hcb : f.2.2.2 ≤ f.1) (hQ : ∀ f', IA f r.length (zsort (fun m => r.getD m.toNatClampNeg 0) ((List.range r.length).map nI)) f' → Q (.inl (some (.ref f.1))) s f') : EvC l E w d MX7_grade [.ref q] s f Q := by
  obtain ⟨q', v1, v2, v3, v4, v5⟩ := ha.vw
  cases v1
  refine eX7_grade hst ⟨0, v3, ?_⟩
  rw [v4, nI_clamp (by omega)]
  refine ⟨i32_nn _ (by omega), by omega, (by show f.2.1 + 1 + r.length ≤ BM; omega), fun a2 f3 e1 e2 => ?_⟩
  have hI := IA.zero f r.length
  rw [← e2] at hI
  subst e1
  generalize hkey : (fun m : Int32 => r.getD m.toNatClampNeg 0) = key at *
  have hrng : ∀ k, k ≤ r.length → ((List.range r.length).map nI).take k = (List.range k).map nI := fun k hk => by
    rw [← List.map_take, List.take_range, Nat.min_eq_left hk]
  have outer : ∀ m k, k + m = r.length → ∀ fk, IA f r.length (zsort key ((List.range k).map nI) ++ List.replicate (r.length - k) 0) fk → ExC l E w d MX7_grade 7 [some (.ref q), some (.ref f.1), some (.int (nI k)), none] [] s fk Q := by
    intro m
    induction m with
    | zero =>
      intro k hk fk hA
      have hk : k = r.length := hk
      subst hk
      rw [Nat.sub_self, List.replicate_zero, List.append_nil] at hA
      refine vX7_grade_7 ⟨0, hA.at.1, ?_⟩
      rw [hA.at.2.1]
      exact pk_le r.length r.length (fun _ => hQ fk hA) (fun c => by omega) rfl rfl
    | succ m ih =>
      intro k hk fk hA
      have hS : (zsort key ((List.range k).map nI)).length = k := by rw [zsort_len, List.length_map, List.length_range]
      have hmem : ∀ x ∈ zsort key ((List.range k).map nI), ∃ j, j < k ∧ x = nI j := fun x hx => by
        obtain ⟨j, hj, rfl⟩ := List.mem_map.mp (zsort_mem _ hx)
        exact ⟨j, List.mem_range.mp hj, rfl⟩
      have hrk : (List.range (k + 1)).map nI = (List.range k).map nI ++ [nI k] := by rw [List.range_succ, List.map_append]; rfl
      have hrep : List.replicate (r.length - k) (0 : Int32) = 0 :: List.replicate (r.length - (k + 1)) 0 := by
        have : r.length - k = (r.length - (k + 1)) + 1 := by omega
        rw [this, List.replicate_succ]
      have hkk : key (nI k) = r.getD k 0 := by rw [← hkey]; show r.getD (nI k).toNatClampNeg 0 = _; rw [nI_clamp (by omega)]
      refine vX7_grade_7 ⟨0, hA.at.1, ?_⟩
      rw [hA.at.2.1]
      refine pk_le r.length k (fun c => by omega) (fun _ => ?_) rfl rfl
      generalize hSe : zsort key ((List.range k).map nI) = S at *
      have inner : ∀ i, i ≤ k → ∀ (h0 : Int32) fk, (∀ j, i ≤ j → j < k → key (nI k) < key (S.getD j 0)) → IA f r.length (S.take i ++ h0 :: (S.drop i ++ List.replicate (r.length - (k + 1)) 0)) fk → ExC l E w d MX7_grade 15 [some (.ref q), some (.ref f.1), some (.int (nI k)), some (.int (nI i))] [] s fk Q := by
        intro i
        induction i with
        | zero =>
          intro _ h0 fk hgt hB
          have hput := hB.set (k := 0) (Nat.succ_pos _) (nI k)
          have hfin : zsort key ((List.range (k + 1)).map nI) ++ List.replicate (r.length - (k + 1)) 0 = nI k :: (S.drop 0 ++ List.replicate (r.length - (k + 1)) 0) := by
            rw [hrk, zsort_ins (i := 0) (Nat.zero_le _) (fun j _ hj => by rw [hSe] at hj ⊢; exact hgt j (Nat.zero_le _) (by omega)) (fun c => absurd c (Nat.lt_irrefl 0)), hSe]
            rfl
          refine vX7_grade_15 (pk_le 0 0 (fun _ => ⟨hB.at.1, by rw [hB.at.2.1]; exact inB_n (n := 0) (by omega), by rw [hB.eqs.2.2]; exact hcb, fun f5 e => ?_⟩) (fun c => by omega) rfl rfl)
          rw [e, nI_1]
          refine ih (k + 1) (by omega) _ ?_
          rw [hfin]
          exact hput
        | succ i ihi =>
          intro hik h0 fk hgt hB
          have g := hB.gw
          have hti : (S.take (i + 1)).length = i + 1 := by rw [List.length_take]; omega
          have hlen : (S.take (i + 1) ++ h0 :: (S.drop (i + 1) ++ List.replicate (r.length - (k + 1)) 0)).length = r.length := by
            rw [List.length_append, List.length_cons, List.length_append, hti, List.length_drop, List.length_replicate]; omega
          have hgi : (S.take (i + 1) ++ h0 :: (S.drop (i + 1) ++ List.replicate (r.length - (k + 1)) 0)).getD i 0 = S.getD i 0 := by
            rw [getD_app1 _ _ (by omega), getD_lt 0 (by omega), List.getElem_take, getD_lt 0 (by omega)]
          have hset : ∀ x : Int32, (S.take (i + 1) ++ h0 :: (S.drop (i + 1) ++ List.replicate (r.length - (k + 1)) 0)).set (i + 1) x = S.take (i + 1) ++ x :: (S.drop (i + 1) ++ List.replicate (r.length - (k + 1)) 0) := fun x => by
            have := set_mid (S.drop (i + 1) ++ List.replicate (r.length - (k + 1)) 0) h0 x (S.take (i + 1))
            rw [hti] at this
            exact this
          obtain ⟨j0, hj0, hj1⟩ := hmem _ (getD_mem 0 (show i < S.length by omega))
          have hkj : key (S.getD i 0) = r.getD j0 0 := by rw [hj1, ← hkey]; show r.getD (nI j0).toNatClampNeg 0 = _; rw [nI_clamp (by omega)]
          refine vX7_grade_15 ?_
          rw [hB.at.2.1, show nI (i + 1) - 1 = nI i from nI_pred i, nI_clamp (n := i) (by omega), nI_clamp (n := k) (by omega), nI_clamp (n := i + 1) (by omega), g.lnE hqf, v4]
          refine pk_le (i + 1) 0 (fun c => by omega) (fun _ => ⟨hB.at.1, inB_n (by omega), nI j0, by rw [← hj1, ← hgi]; exact hB.at.2.2 i (by omega), (g.tgE hqf).trans v3, inB_n (by omega), r.getD j0 0, by rw [nI_clamp (by omega), g.vlE hqf]; exact v5 j0 (by omega), (g.tgE hqf).trans v3, inB_n (by omega), r.getD k 0, by rw [g.vlE hqf]; exact v5 k (by omega), ?_⟩) rfl rfl
          rw [← hkj, ← hkk]
          refine ⟨fun c => ⟨hB.at.1, inB_n (by omega), by rw [hB.eqs.2.2]; exact hcb, fun f7 e => ?_⟩, fun c => ⟨hB.at.1, inB_n (by omega), S.getD i 0, by rw [← hgi]; exact hB.at.2.2 i (by omega), hB.at.1, inB_n (by omega), by rw [hB.eqs.2.2]; exact hcb, fun f9 e => ?_⟩⟩
          · have hput := hB.set (k := i + 1) (by omega) (nI k)
            rw [hset] at hput
            have hfin : zsort key ((List.range (k + 1)).map nI) ++ List.replicate (r.length - (k + 1)) 0 = S.take (i + 1) ++ nI k :: (S.drop (i + 1) ++ List.replicate (r.length - (k + 1)) 0) := by
              rw [hrk, zsort_ins (i := i + 1) (by rw [hSe]; omega) (fun j h1 hj => by rw [hSe] at hj ⊢; exact hgt j h1 (by omega)) (fun _ => by rw [hSe]; exact Int32.not_lt.mpr c), hSe, List.append_assoc]
              rfl
            rw [e, nI_1]
            refine ih (k + 1) (by omega) _ ?_
            rw [hfin]
            exact hput
          · have hput := hB.set (k := i + 1) (by omega) (S.getD i 0)
            rw [hset] at hput
            rw [e, pk_m1]
            refine ihi (by omega) (S.getD i 0) _ (fun j h1 hj => ?_) ?_
            · by_cases ej : j = i
              · rw [ej]; exact Int32.not_le.mp c
              · exact hgt j (by omega) hj
            · have e1 := take_succ_getD S 0 i (by omega)
              have e2 := take_getD_drop S 0 i (by omega)
              rw [e2, List.cons_append]
              rw [e1, List.append_assoc] at hput
              exact hput
      refine inner k (Nat.le_refl k) 0 fk (fun j h1 h2 => by omega) ?_
      have e3 : S.take k ++ 0 :: (S.drop k ++ List.replicate (r.length - (k + 1)) 0) = S ++ List.replicate (r.length - k) 0 := by
        rw [List.take_of_length_le (by omega), List.drop_of_length_le (by omega), hrep]; rfl
      rw [e3]; exact hA
  exact outer r.length 0 (by omega) f3 hI
end CSo
