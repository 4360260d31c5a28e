/-! THE MODEL: rows that are put in order -/
def insA (key : Int32 → Int32) (m : Int32) : List Int32 → Nat → List Int32
  | L, 0 => L.set 0 m
  | L, j + 1 => if key m < key (L.getD j 0) then insA key m (L.set (j + 1) (L.getD j 0)) j else L.set (j + 1) m
theorem insA_eq (key : Int32 → Int32) (m : Int32) : ∀ (k : Nat) (P T : List Int32) (x : Int32), P.length = k → insA key m (P ++ x :: T) k = (zins key m P.reverse).reverse ++ T := by
  intro k
  induction k with
  | zero =>
    intro P T x h
    have : P = [] := List.length_eq_zero_iff.mp h
    subst this
    rfl
  | succ k ih =>
    intro P T x h
    have hne : P ≠ [] := fun e => by rw [e] at h; cases h
    obtain ⟨P', y, rfl⟩ : ∃ P' y, P = P' ++ [y] := ⟨P.dropLast, P.getLast hne, (List.dropLast_concat_getLast hne).symm⟩
    have hl : P'.length = k := by
      rw [List.length_append] at h
      exact Nat.succ.inj h
    have hget : (P' ++ [y] ++ x :: T).getD k 0 = y := by
      rw [getD_app1 _ _ (by rw [List.length_append, hl]; exact Nat.lt_succ_self k), ← hl, getD_last]
    have hset : ∀ v, (P' ++ [y] ++ x :: T).set (k + 1) v = P' ++ [y] ++ v :: T := by
      intro v
      rw [List.set_append_right _ _ (by rw [List.length_append, hl]; exact Nat.le_refl _)]
      congr 1
      have : k + 1 - (P' ++ [y]).length = 0 := by rw [List.length_append, hl]; exact Nat.sub_self _
      rw [this]; rfl
    show (if key m < key ((P' ++ [y] ++ x :: T).getD k 0) then insA key m ((P' ++ [y] ++ x :: T).set (k + 1) ((P' ++ [y] ++ x :: T).getD k 0)) k else (P' ++ [y] ++ x :: T).set (k + 1) m) = _
    rw [hget, hset, hset, List.reverse_append]
    show _ = (zins key m (y :: P'.reverse)).reverse ++ T
    show _ = (if key m < key y then y :: zins key m P'.reverse else m :: y :: P'.reverse).reverse ++ T
    by_cases c : key m < key y
    · rw [if_pos c, if_pos c, List.append_assoc]
      rw [show P' ++ ([y] ++ y :: T) = P' ++ y :: (y :: T) from rfl, ih P' (y :: T) y hl, List.reverse_cons, List.append_assoc]
      rfl
    · rw [if_neg c, if_neg c, List.reverse_cons, List.reverse_cons, List.reverse_reverse]
      rw [List.append_assoc (P' ++ [y])]; rfl
theorem zins_mem {key : Int32 → Int32} {m v : Int32} : ∀ {l : List Int32}, v ∈ zins key m l → v = m ∨ v ∈ l
  | [], h => Or.inl (List.mem_singleton.mp h)
  | x :: r, h => by
    have h : v ∈ (if key m < key x then x :: zins key m r else m :: x :: r) := h
    split at h
    · rcases List.mem_cons.mp h with rfl | h
      · exact Or.inr List.mem_cons_self
      · rcases zins_mem h with h | h
        · exact Or.inl h
        · exact Or.inr (List.mem_cons_of_mem _ h)
    · rcases List.mem_cons.mp h with rfl | h
      · exact Or.inl rfl
      · exact Or.inr h
theorem zins_len {key : Int32 → Int32} {m : Int32} : ∀ (l : List Int32), (zins key m l).length = l.length + 1
  | [] => rfl
  | x :: r => by
    show (if key m < key x then x :: zins key m r else m :: x :: r).length = _
    split
    · rw [List.length_cons, zins_len r]; rfl
    · rfl
theorem zsort_snoc (key : Int32 → Int32) (l : List Int32) (m : Int32) : zsort key (l ++ [m]) = (zins key m (zsort key l).reverse).reverse := by
  unfold zsort
  rw [List.foldl_append, List.reverse_reverse]; rfl
theorem zsort_len (key : Int32 → Int32) (l : List Int32) : (zsort key l).length = l.length := by
  unfold zsort
  rw [List.length_reverse]
  have : ∀ (l acc : List Int32), (l.foldl (fun acc v => zins key v acc) acc).length = acc.length + l.length := by
    intro l
    induction l with
    | nil => intro acc; rfl
    | cons x r ih => intro acc; rw [List.foldl_cons, ih, zins_len, List.length_cons]; omega
  rw [this]; exact Nat.zero_add _
theorem zsort_mem {key : Int32 → Int32} {v : Int32} (l : List Int32) (h : v ∈ zsort key l) : v ∈ l := by
  unfold zsort at h
  rw [List.mem_reverse] at h
  have : ∀ (l acc : List Int32), v ∈ l.foldl (fun acc v => zins key v acc) acc → v ∈ acc ∨ v ∈ l := by
    intro l
    induction l with
    | nil => intro acc h; exact Or.inl h
    | cons x r ih =>
      intro acc h
      rcases ih _ h with h | h
      · rcases zins_mem h with h | h
        · exact Or.inr (h ▸ List.mem_cons_self)
        · exact Or.inl h
      · exact Or.inr (List.mem_cons_of_mem _ h)
  rcases this l [] h with h | h
  · cases h
  · exact h
theorem zscan_len (c : Int32) : ∀ a : List Int32, (zscan c a).length = a.length
  | [] => rfl
  | x :: r => by
    show (zscan (c + x) r).length + 1 = _
    rw [zscan_len (c + x) r]; rfl
theorem zscan_at : ∀ (a : List Int32) (c : Int32) (i : Nat), i < a.length → (zscan c a).getD i 0 = (a.take (i + 1)).foldl (· + ·) c
  | x :: r, c, 0, _ => rfl
  | x :: r, c, i + 1, h => by
    show (zscan (c + x) r).getD i 0 = (r.take (i + 1)).foldl (· + ·) (c + x)
    exact zscan_at r (c + x) i (Nat.lt_of_succ_lt_succ h)
/-- what is worked out of a row -/
def zwk (k : Nat) (a : List Int32) : List Int32 := if k = 12 then zscan 0 a else if k = 13 then zsort id a else zsort (fun m => a.getD m.toNatClampNeg 0) ((List.range a.length).map nI)
section MW1
variable {l : Launch} {E : EN} {w : MO} {d : Nat} {s s0 : MS} {Q : Option Value → MS → Prop} {b n md b1 : Nat}
theorem MAcc.at {xs : List Th} {L : List Int32} (ha : MAcc b n s0 b1 (xs ++ L.map zI) s) {j : Nat} (hj : j < L.length) : s.2.2.1 106 (n + xs.length + j) = 0 ∧ s.2.2.1 107 (n + xs.length + j) = L.getD j 0 := by
  have := ha.2.2.2.2.2.2 (xs.length + j) (by rw [List.length_append, List.length_map]; omega)
  rw [getD_app2, getD_map zI L 0 (zI 0) hj, ← Nat.add_assoc] at this
  exact rmV.int this
theorem MAcc.setI {xs : List Th} {L : List Int32} (ha : MAcc b n s0 b1 (xs ++ L.map zI) s) {j : Nat} (hj : j < L.length) (v : Int32) : MAcc b n s0 b1 (xs ++ (L.set j v).map zI) (sA s 107 (n + xs.length + j) v) := by
  obtain ⟨h1, h2, h3, h4, h5, h6, h7⟩ := ha
  have hlen : (xs ++ (L.set j v).map zI).length = (xs ++ L.map zI).length := by rw [List.length_append, List.length_append, List.length_map, List.length_map, List.length_set]
  refine ⟨h1.trans (mfr.pA J0 s v (Or.inr rfl) (by omega)), h2, h3, h4, by rw [hlen]; exact h5, by rw [hlen]; exact h6, fun i hi => ?_⟩
  rw [hlen] at hi
  have h8 := h7 i hi
  have e104 : (sA s 107 (n + xs.length + j) v).2.2.1 104 = s.2.2.1 104 := rfl
  have e106 : (sA s 107 (n + xs.length + j) v).2.2.1 106 = s.2.2.1 106 := rfl
  have e107 : (sA s 107 (n + xs.length + j) v).2.2.1 107 (n + i) = if n + i = n + xs.length + j then v else s.2.2.1 107 (n + i) := by
    show (if 107 = 107 ∧ n + i = n + xs.length + j then v else _) = _
    by_cases e : n + i = n + xs.length + j <;> simp [e]
  rw [e104, e106, e107]
  by_cases hx : i < xs.length
  · rw [if_neg (by omega), getD_app1 _ _ hx]
    rw [getD_app1 _ _ hx] at h8
    exact h8
  · obtain ⟨k, rfl⟩ : ∃ k, i = xs.length + k := ⟨i - xs.length, by omega⟩
    rw [List.length_append, List.length_map] at hi
    have hk : k < L.length := by omega
    rw [getD_app2, getD_map zI L 0 (zI 0) hk] at h8
    rw [getD_app2, getD_map zI (L.set j v) 0 (zI 0) (by rw [List.length_set]; exact hk)]
    obtain ⟨q1, q2⟩ := rmV.int h8
    rw [q1, q2]
    refine Or.inl ⟨rfl, rfl, ?_⟩
    show _ = (L.set j v).getD k 0
    rw [getD_lt (l := L.set j v) 0 (by rw [List.length_set]; exact hk), List.getElem_set]
    by_cases e : j = k
    · rw [if_pos (by omega), if_pos e]
    · rw [if_neg (by omega), if_neg e, getD_lt 0 hk]
/-- one INT finds its place -/
theorem M_wk134 (hst : l.stackTraces = false) {xs : List Th} {p k : Nat} {a : List Int32} (hr : rmT (s0.2.2.1 104) b true (zR a) p 0) (hb : b ≤ 157600) (hk : k = 13 ∨ k = 14) {key : Int32 → Int32} (hkey : key = if k = 13 then id else fun m => a.getD m.toNatClampNeg 0) {i : Nat} {m : Int32}
    : ∀ (j : Nat) (L : List Int32) (s : MS), j < L.length → n + xs.length + L.length ≤ 8900 → (k = 14 → ∀ v ∈ L, ∃ z : Nat, z < a.length ∧ v = nI z) → MAcc b n s0 b1 (xs ++ L.map zI) s →
      (∀ s', MAcc b n s0 b1 (xs ++ (insA key m L j).map zI) s' → ExM l E w (d + 1) MX10_worked 88 [some (.ref w.1), some (.int (nI k)), some (.int (nI p)), some (.int (nI (n + xs.length))), none, some (.int (nI (n + xs.length + i) + 1)), none, none, none] [] s' Q) →
      ExM l E w (d + 1) MX10_worked 134 [some (.ref w.1), some (.int (nI k)), some (.int (nI p)), some (.int (nI (n + xs.length))), none, some (.int (nI (n + xs.length + i))), some (.int m), some (.int (key m)), some (.int (nI (n + xs.length + j)))] [] s Q := by
  have hal : a.length ≤ b := by have h4 := (rmT_head hr).2.2.2; have : p + 2 + a.length ≤ b := h4; omega
  intro j
  induction j with
  | zero =>
    intro L s hj hn hL hA hQ
    refine vX10_worked_134 (pk_le _ _ (fun _ => ⟨inB_n (by omega), ?_⟩) (fun c => by omega) rfl rfl)
    rw [nI_clamp (by omega)]
    exact hQ _ (hA.setI hj m)
  | succ j ih =>
    intro L s hj hn hL hA hQ
    have hat := hA.at (show j < L.length by omega)
    have hI : insA key m L (j + 1) = if key m < key (L.getD j 0) then insA key m (L.set (j + 1) (L.getD j 0)) j else L.set (j + 1) m := rfl
    have e1 : nI (n + xs.length + (j + 1)) - 1 = nI (n + xs.length + j) := nI_pred (n + xs.length + j)
    have e2 : nI (n + xs.length + (j + 1)) + (-1) = nI (n + xs.length + j) := pk_m1 (n + xs.length + j)
    have stop : ¬ key m < key (L.getD j 0) → ExM l E w (d + 1) MX10_worked 88 [some (.ref w.1), some (.int (nI k)), some (.int (nI p)), some (.int (nI (n + xs.length))), none, some (.int (nI (n + xs.length + i) + 1)), none, none, none] [] (sA s 107 (n + xs.length + (j + 1)) m) Q := by
      intro c
      rw [if_neg c] at hI
      rw [hI] at hQ
      exact hQ _ (hA.setI hj m)
    have go : key m < key (L.getD j 0) → ExM l E w (d + 1) MX10_worked 134 [some (.ref w.1), some (.int (nI k)), some (.int (nI p)), some (.int (nI (n + xs.length))), none, some (.int (nI (n + xs.length + i))), some (.int m), some (.int (key m)), some (.int (nI (n + xs.length + j)))] [] (sA s 107 (n + xs.length + (j + 1)) (L.getD j 0)) Q := by
      intro c
      rw [if_pos c] at hI
      rw [hI] at hQ
      refine ih (L.set (j + 1) (L.getD j 0)) _ (by rw [List.length_set]; omega) (by rw [List.length_set]; exact hn) (fun c v hv => ?_) (hA.setI hj _) hQ
      rcases List.mem_or_eq_of_mem_set hv with hv | hv
      · exact hL c v hv
      · rw [hv]; exact hL c _ (getD_mem 0 (by omega))
    refine vX10_worked_134 (pk_le _ _ (fun c => by omega) (fun _ => ?_) rfl rfl)
    rw [e1, e2, nI_clamp (by omega), nI_clamp (by omega), hat.2]
    rcases hk with rfl | rfl
    · refine ⟨fun c => absurd rfl c, fun _ => ⟨inB_n (by omega), fun c => ⟨inB_n (by omega), stop ?_⟩, fun c => ⟨inB_n (by omega), inB_n (by omega), go ?_⟩⟩⟩
      · have hk : key = id := hkey
        subst hk
        exact Int32.not_lt.mpr c
      · have hk : key = id := hkey
        subst hk
        exact Int32.not_le.mp c
    · obtain ⟨z, hz1, hz2⟩ := hL rfl _ (getD_mem 0 (show j < L.length by omega))
      obtain ⟨r1, r2⟩ := hA.rowAt hr hz1
      have hk : key (L.getD j 0) = a.getD z 0 := by
        have hk : key = fun m => a.getD m.toNatClampNeg 0 := hkey
        rw [hk, hz2]
        show a.getD (nI z).toNatClampNeg 0 = _
        rw [nI_clamp (by omega)]
      refine ⟨fun _ => ⟨inB_n (by omega), ?_⟩, fun c => absurd c (by decide)⟩
      have e3 : nI p + 2 + L.getD j 0 = nI (p + 2 + z) := by rw [hz2, nI_l2, nI_add]
      rw [e3, nI_clamp (by omega), r2, ← hk]
      exact ⟨inB_n (by omega), fun c => ⟨inB_n (by omega), stop (Int32.not_lt.mpr c)⟩, fun c => ⟨inB_n (by omega), inB_n (by omega), go (Int32.not_le.mp c)⟩⟩
end MW1
