/-! THE COMPONENT: what comes out -/
def cfO (s s' : CS) : Prop := (∀ j, ¬ j = 53 → s'.1 j = s.1 j) ∧ s'.2.1 = s.2.1 ∧ (∀ j, ¬ j = 52 → s'.2.2.1 j = s.2.2.1 j) ∧ s'.2.2.2 = s.2.2.2
theorem cfO.rf (s : CS) : cfO s s := ⟨fun _ _ => rfl, rfl, fun _ _ => rfl, rfl⟩
theorem cfO.trans {s s' s'' : CS} (h : cfO s s') (k : cfO s' s'') : cfO s s'' := ⟨fun j hj => (k.1 j hj).trans (h.1 j hj), k.2.1.trans h.2.1, fun j hj => (k.2.2.1 j hj).trans (h.2.2.1 j hj), k.2.2.2.trans h.2.2.2⟩
theorem cfO.uI (s : CS) (v : Int32) : cfO s (uI s 53 v) := ⟨fun j hj => if_neg hj, rfl, fun _ _ => rfl, rfl⟩
theorem cfO.uA (s : CS) (k : Nat) (v : Int32) : cfO s (uA s 52 k v) := ⟨fun _ _ => rfl, rfl, fun j hj => by
  funext n
  exact if_neg (fun z => hj z.1), rfl⟩
theorem zdg_len : ∀ g n b, (zdg g n b).length ≤ g
  | 0, _, _ => Nat.le_refl 0
  | g + 1, n, b => by
    show (if b = 0 then [] else nI (48 + n / b % 10) :: zdg g n (b / 10)).length ≤ g + 1
    split
    · exact Nat.zero_le _
    · have := zdg_len g n (b / 10)
      rw [List.length_cons]; omega
theorem znum_len (v : Int32) : (znum v).length ≤ 13 := by
  have h1 := zdg_len 12 v.toInt.natAbs (zby 12 v.toInt.natAbs 1)
  show ((if v < 0 then [45] else []) ++ zdg 12 v.toInt.natAbs (zby 12 v.toInt.natAbs 1)).length ≤ 13
  rw [List.length_append]
  split
  · show 1 + _ ≤ 13; omega
  · show 0 + _ ≤ 13; omega
theorem zsep_len (c : Int32) : ∀ l : List (List Int32), (∀ x ∈ l, x.length ≤ 13) → (zsep c l).length ≤ 14 * l.length
  | [], _ => Nat.le_refl _
  | [a], h => by
    have := h a (List.mem_singleton.mpr rfl)
    show a.length ≤ 14 * 1; omega
  | a :: b :: r, h => by
    have h1 := h a (List.mem_cons_self ..)
    have h2 := zsep_len c (b :: r) (fun x hx => h x (List.mem_cons_of_mem _ hx))
    show (a ++ c :: zsep c (b :: r)).length ≤ 14 * ((b :: r).length + 1)
    rw [List.length_append, List.length_cons]; omega
theorem zfrow_len (a : List Int32) : (zfrow a).length ≤ 2 + 14 * a.length := by
  have h := zsep_len 32 (a.map znum) (fun x hx => by
    obtain ⟨v, _, rfl⟩ := List.mem_map.mp hx
    exact znum_len v)
  rw [List.length_map] at h
  show (91 :: zsep 32 (a.map znum) ++ [93]).length ≤ _
  rw [List.length_append, List.length_cons]
  show _ + 1 + 1 ≤ _
  omega
theorem ztab_len : ∀ a : List (List Int32), ((a.map zfrow).flatten).length ≤ 2 * a.length + 14 * zis a
  | [] => Nat.le_refl _
  | r :: a => by
    have h1 := zfrow_len r
    have h2 := ztab_len a
    have e : zis (r :: a) = r.length + zis a := by show ((r :: a).map List.length).sum = _; rw [List.map_cons, List.sum_cons]; rfl
    rw [List.map_cons, List.flatten_cons, List.length_append, List.length_cons, e]; omega
theorem zspn_len : ∀ tl : List Th, (∀ x ∈ tl, (zform 0 x).length + 1 ≤ 14 * zb x) → (zform 2 (zsp tl)).length ≤ 14 * (tl.map zb).sum
  | [], _ => Nat.le_refl _
  | x :: r, h => by
    have h1 := h x (List.mem_cons_self ..)
    have h2 := zspn_len r (fun y hy => h y (List.mem_cons_of_mem _ hy))
    show (59 :: zform 0 x ++ zform 2 (zsp r)).length ≤ _
    rw [List.length_append, List.length_cons, List.map_cons, List.sum_cons]; omega
theorem zform_len : ∀ t, ZW t → (zform 0 t).length + 1 ≤ 14 * zb t := by
  refine zind (P := fun t => (zform 0 t).length + 1 ≤ 14 * zb t) (fun v => ?_) (fun a _ => ?_) (fun a _ _ _ => ?_) (fun tl _ _ _ h => ?_)
  · have := znum_len v
    show (znum v).length + 1 ≤ 14 * 1; omega
  · have := zfrow_len a
    show (zfrow a).length + 1 ≤ 14 * (1 + a.length); omega
  · have := ztab_len a
    show (123 :: (a.map zfrow).flatten ++ [125]).length + 1 ≤ 14 * (1 + a.length + zis a)
    rw [List.length_append, List.length_cons]
    show _ + 1 + 1 + 1 ≤ _
    omega
  · rw [zb_zP]
    have h2 : (zform 1 (zsp tl)).length ≤ 14 * (tl.map zb).sum := by
      match tl, h with
      | [], _ => exact Nat.zero_le _
      | x :: r, h =>
        have h1 := (h x (List.mem_cons_self ..)).2
        have h2 := zspn_len r (fun y hy => (h y (List.mem_cons_of_mem _ hy)).2)
        show (zform 0 x ++ zform 2 (zsp r)).length ≤ _
        rw [List.length_append, List.map_cons, List.sum_cons]; omega
    show (40 :: zform 1 (zsp tl) ++ [41]).length + 1 ≤ _
    rw [List.length_append, List.length_cons]
    show _ + 1 + 1 + 1 ≤ _
    omega
theorem zform_le {t : Th} (h : ZW t) : (zform 0 t).length + 1 ≤ 8400 := by
  have h1 := zform_len t h
  have h2 : zb t ≤ 600 := by
    rcases zcases h with ⟨v, rfl⟩ | ⟨a, rfl, h3⟩ | ⟨a, rfl, h3, h4, _⟩ | ⟨l, rfl, h3, h4, _⟩
    · show 1 ≤ 600; decide
    · show 1 + a.length ≤ 600; omega
    · show 1 + a.length + zis a ≤ 600; omega
    · rw [zb_zP]; exact h4
  omega
section CO1
variable {l : Launch} {E : EN} {w : CO} {d : Nat} {s s' s0 : CS} {f f' f0 : RH} {Q : KO → CS → RH → Prop} {out : List Int32}
theorem C_sign (hst : l.stackTraces = false) {c : Int32} (ho : cOut s out) (hl : out.length + 1 < 2 ^ 31) (hQ : ∀ s', cfO s s' → cOut s' (out ++ [c]) → Q (.inl none) s' f) : EvC l E w d MX8_sign [.ref (w.1 8), .int c] s f Q := by
  refine eX8_sign hst ?_
  rw [ho.1, nI_1]
  have hlen : (out ++ [c]).length = out.length + 1 := by rw [List.length_append]; rfl
  refine pk_le 600 out.length (fun k => hQ _ (cfO.uI s _) ⟨by rw [hlen]; rfl, fun i hi h6 => ?_⟩) (fun k => ⟨inB_n k, hQ _ ((cfO.uA s _ _).trans (cfO.uI _ _)) ⟨by rw [hlen]; rfl, fun i hi h6 => ?_⟩⟩) rfl rfl
  · rw [getD_app1 _ _ (by omega)]
    exact ho.2 i (by omega) h6
  · rw [nI_clamp (n := out.length) (by omega)]
    show (if 52 = 52 ∧ i = out.length then c.toInt8.toInt32.toInt8.toInt32 else s.2.2.1 52 i) = _
    by_cases e : i = out.length
    · rw [if_pos ⟨rfl, e⟩, e, getD_last]
      congr 1
      exact Int8.toInt8_toInt32 _
    · rw [if_neg (fun z => e z.2), getD_app1 _ _ (by rw [hlen] at hi; omega)]
      exact ho.2 i (by rw [hlen] at hi; omega) h6
/-- a number comes out -/
theorem C_number (hst : l.stackTraces = false) {v : Int32} (ho : cOut s out) (hl : out.length + (znum v).length < 2 ^ 31) (hQ : ∀ s', cfO s s' → cOut s' (out ++ znum v) → Q (.inl none) s' f) : EvC l E w (d + 1) MX8_number [.ref (w.1 8), .int v] s f Q := by
  have hr := i32_rng v
  have hn : v.toInt.natAbs ≤ 2 ^ 31 := by omega
  have hzn : znum v = (if v < 0 then [45] else []) ++ zdg 12 v.toInt.natAbs (zby 12 v.toInt.natAbs 1) := rfl
  generalize hN : v.toInt.natAbs = N at hn hzn
  have dig : ∀ g b (out1 : List Int32) (s1 : CS), b < 10 ^ g → b < 2 ^ 40 → cOut s1 out1 → out1 ++ zdg g N b = out ++ znum v → cfO s s1 → ExC l E w (d + 1) MX8_number 48 [some (.ref (w.1 8)), none, some (.long (lN N)), none, some (.long (lN b)), none] [] s1 f Q := by
    intro g
    induction g with
    | zero =>
      intro b out1 s1 hb hb2 ho1 he hf
      have hb : b = 0 := by omega
      subst hb
      have e0 : zdg 0 N 0 = [] := rfl
      rw [e0, List.append_nil] at he
      subst he
      refine vX8_number_48 ⟨fun _ => hQ s1 hf ho1, fun c => absurd ?_ c⟩
      rw [lg_cmp_le]; decide
    | succ g ih =>
      intro b out1 s1 hb hb2 ho1 he hf
      by_cases b0 : b = 0
      · subst b0
        have e0 : zdg (g + 1) N 0 = [] := rfl
        rw [e0, List.append_nil] at he
        subst he
        refine vX8_number_48 ⟨fun _ => hQ s1 hf ho1, fun c => absurd ?_ c⟩
        rw [lg_cmp_le]; decide
      · have e1 : zdg (g + 1) N b = nI (48 + N / b % 10) :: zdg g N (b / 10) := if_neg b0
        rw [e1] at he
        have hlen := congrArg List.length he
        rw [List.length_append, List.length_cons, List.length_append] at hlen
        have hq : N / b ≤ N := Nat.div_le_self N b
        refine vX8_number_48 ⟨fun c => ?_, fun _ => ⟨?_, ?_⟩⟩
        · exfalso
          rw [lg_cmp_le, show (0 : Int64) = lN 0 from rfl, lN_le' (by omega) (by omega)] at c
          omega
        · intro z
          have := congrArg Int64.toInt z
          rw [lN_toI (by omega)] at this
          have : (b : Int) = 0 := this
          omega
        · have ea : (48 + (lN N / lN b - lN N / lN b / 10 * 10)).toInt32 = nI (48 + N / b % 10) := by
            rw [lN_div (by omega) (by omega) (by omega), show (10 : Int64) = lN 10 from rfl, lN_div (by omega) (by omega) (by omega), lN_mul, lN_sub (by omega), show (48 : Int64) = lN 48 from rfl, lN_add, lN_i]
            congr 1
            omega
          rw [ea]
          refine C_sign hst ho1 (by omega) (fun s2 q1 q4 => ⟨rfl, fun y2 e2 => ?_⟩)
          rw [show (10 : Int64) = lN 10 from rfl, lN_div (by omega) (by omega) (by omega)] at e2
          rw [e2]
          exact ih (b / 10) (out1 ++ [nI (48 + N / b % 10)]) s2 (by rw [Nat.pow_succ] at hb; omega) (by omega) q4 (by rw [List.append_assoc]; exact he) (hf.trans q1)
  have pow : ∀ g b (out1 : List Int32) (s1 : CS), 0 < b → N < b * 10 ^ g → b ≤ 2 ^ 36 → zby g N b = zby 12 N 1 → cOut s1 out1 → out1 ++ zdg 12 N (zby 12 N 1) = out ++ znum v → cfO s s1 → ExC l E w (d + 1) MX8_number 26 [some (.ref (w.1 8)), none, some (.long (lN N)), none, some (.long (lN b)), none] [] s1 f Q := by
    intro g
    induction g with
    | zero =>
      intro b out1 s1 hb hN1 hb2 he ho1 heq hf
      have hNb : N < b := by rw [Nat.pow_zero, Nat.mul_one] at hN1; exact hN1
      have he : b = zby 12 N 1 := he
      have hb0 : ¬ lN b = 0 := by
        intro z
        have := congrArg Int64.toInt z
        rw [lN_toI (by omega)] at this
        have : (b : Int) = 0 := this
        omega
      have hle := zby_le N 12 1 (by decide)
      refine vX8_number_26 ⟨hb0, fun _ => ?_, fun c => absurd ?_ c⟩
      · rw [← he] at heq
        exact dig 12 b out1 s1 (by omega) (by omega) ho1 heq hf
      · rw [lg_cmp_le, lN_div (by omega) hb (by omega), show (9 : Int64) = lN 9 from rfl, lN_le' (by have := Nat.div_le_self N b; omega) (by omega), Nat.div_eq_of_lt hNb]
        decide
    | succ g ih =>
      intro b out1 s1 hb hN1 hb2 he ho1 heq hf
      have hb0 : ¬ lN b = 0 := by
        intro z
        have := congrArg Int64.toInt z
        rw [lN_toI (by omega)] at this
        have : (b : Int) = 0 := this
        omega
      have hq : N / b ≤ N := Nat.div_le_self N b
      have lc : lg_cmp (lN N / lN b) 9 ≤ 0 ↔ N / b ≤ 9 := by
        rw [lg_cmp_le, lN_div (by omega) hb (by omega), show (9 : Int64) = lN 9 from rfl, lN_le' (by omega) (by omega)]
      have hz : zby (g + 1) N b = if 9 < N / b then zby g N (10 * b) else b := rfl
      have hle := zby_le N 12 1 (by decide)
      refine vX8_number_26 ⟨hb0, ?_⟩
      rw [lc]
      refine ⟨fun c => ?_, fun c y1 e1 => ?_⟩
      · rw [hz, if_neg (by omega)] at he
        rw [← he] at heq
        exact dig 12 b out1 s1 (by omega) (by omega) ho1 heq hf
      · rw [hz, if_pos (by omega)] at he
        rw [show (10 : Int64) = lN 10 from rfl, lN_mul] at e1
        rw [e1]
        have h10 : 10 * b ≤ N := by
          have := Nat.div_mul_le_self N b
          have h2 : 10 * b ≤ N / b * b := Nat.mul_le_mul_right b (by omega)
          omega
        refine ih (10 * b) out1 s1 (by omega) ?_ (by omega) he ho1 heq hf
        rw [Nat.pow_succ] at hN1
        have e : 10 * b * 10 ^ g = b * (10 ^ g * 10) := by rw [Nat.mul_comm 10 b, Nat.mul_assoc, Nat.mul_comm 10]
        rw [e]; exact hN1
  have hn0 : v < 0 ↔ ¬ 0 ≤ v := by rw [Int32.not_le]
  refine eX8_number hst ⟨fun c => ⟨fun _ y1 e1 => ?_, fun c' => absurd c c'⟩, fun c => ?_⟩
  · have c1 : ¬ v < 0 := fun z => hn0.mp z c
    have hv : v.toInt64 = lN N := lN_inj' (by omega) (by rw [i64_toInt]; rw [i32_neg] at c1; omega)
    rw [e1, hv]
    refine pow 12 1 out s (by omega) (by omega) (by omega) rfl ho ?_ (cfO.rf s)
    rw [hzn, if_neg c1]; rfl
  · have c1 : v < 0 := hn0.mpr c
    have hlz : 1 ≤ (znum v).length := by rw [hzn, if_pos c1, List.length_append]; show 1 ≤ 1 + _; omega
    refine C_sign hst ho (by omega) (fun s2 q1 q4 => ⟨rfl, fun c' => absurd c' c, fun _ y3 e3 => ?_⟩)
    have hv : y3 = lN N := by
      refine lN_inj' (by omega) ?_
      rw [e3]
      refine i64_neg ?_ (by omega) (by omega)
      rw [i64_toInt]
      rw [i32_neg] at c1
      omega
    rw [hv]
    refine pow 12 1 (out ++ [45]) s2 (by omega) (by omega) (by omega) rfl q4 ?_ q1
    rw [hzn, if_pos c1, List.append_assoc]
/-- a row's numbers come out -/
theorem C_formRow (hst : l.stackTraces = false) {p : Nat} {a : List Int32} (h3 : tg f p = some (.inr 0)) (h4 : ln f p = a.length) (h5 : ∀ i, i < a.length → vl f p i = .int (a.getD i 0)) (ha : a.length ≤ 64) (ho : cOut s out) (hl : out.length + (zfrow a).length < 2 ^ 31) (hQ : ∀ s', cfO s s' → cOut s' (out ++ zfrow a) → Q (.inl none) s' f) : EvC l E w (d + 2) MX32_form_2 [.ref p, .ref (w.1 8)] s f Q := by
  have ez : zfrow a = 91 :: zsep 32 (a.map znum) ++ [93] := rfl
  have hmono : ∀ i, (zsep 32 ((a.take i).map znum)).length ≤ (zsep 32 (a.map znum)).length := by
    have : ∀ (l r : List (List Int32)), (zsep 32 l).length ≤ (zsep 32 (l ++ r)).length := by
      intro l r
      induction r generalizing l with
      | nil => rw [List.append_nil]; exact Nat.le_refl _
      | cons x r ih =>
        have h := ih (l ++ [x])
        rw [List.append_assoc] at h
        refine Nat.le_trans ?_ h
        by_cases e : l = []
        · rw [e]; exact Nat.zero_le _
        · rw [zsep_snoc 32 x l e, List.length_append]; exact Nat.le_add_right ..
    intro i
    have := this ((a.take i).map znum) ((a.drop i).map znum)
    rwa [← List.map_append, List.take_append_drop] at this
  rw [ez, List.length_append, List.length_cons] at hl
  have hl : out.length + ((zsep 32 (a.map znum)).length + 1 + 1) < 2 ^ 31 := hl
  refine eX32_form_2 hst (C_sign hst ho (by omega) (fun s1 q1 q2 => ⟨rfl, ?_⟩))
  refine dn (P := fun i => ∀ (s' : CS), cfO s s' → cOut s' (out ++ 91 :: zsep 32 ((a.take i).map znum)) → ExC l E w (d + 2) MX32_form_2 8 [some (.ref p), some (.ref (w.1 8)), some (.int (nI i))] [] s' f Q) a.length ?_ (fun i hi ih => ?_) s1 q1 q2
  · intro s' hf ho'
    rw [List.take_of_length_le (Nat.le_refl _)] at ho'
    refine vX32_form_2_8 ⟨0, h3, ?_⟩
    rw [h4]
    refine pk_le a.length a.length (fun _ => C_sign hst ho' ?_ (fun s2 r1 r2 => ⟨rfl, hQ s2 (hf.trans r1) ?_⟩)) (fun c => by omega) rfl rfl
    · rw [List.length_append, List.length_cons]; omega
    · rw [ez]
      rw [List.append_assoc] at r2
      exact r2
  · intro s' hf ho'
    have hts : (a.take (i + 1)).map znum = (a.take i).map znum ++ [znum (a.getD i 0)] := by rw [take_succ_getD a 0 i (by omega), List.map_append]; rfl
    have hm1 := hmono (i + 1)
    refine vX32_form_2_8 ⟨0, h3, ?_⟩
    rw [h4]
    refine pk_le a.length i (fun c => by omega) (fun _ => pk_le i 0 (fun c0 => ⟨h3, inB_n hi, a.getD i 0, by rw [nI_clamp (n := i) (by omega)]; exact h5 i hi, ?_⟩) (fun c0 => ?_) rfl rfl) rfl rfl
    · have i0 : i = 0 := by omega
      subst i0
      have e1 : zsep 32 ((a.take (0 + 1)).map znum) = znum (a.getD 0 0) := by rw [hts]; rfl
      rw [e1] at hm1
      refine C_number hst ho' ?_ (fun s2 r1 r2 => ⟨rfl, ?_⟩)
      · rw [List.length_append]
        show out.length + 1 + _ < _
        omega
      · rw [nI_1]
        refine ih s2 (hf.trans r1) ?_
        rw [e1]
        rw [List.append_assoc] at r2
        exact r2
    · have hne : (a.take i).map znum ≠ [] := by
        intro e
        have := congrArg List.length e
        rw [List.length_map, List.length_take] at this
        have : min i a.length = 0 := this
        omega
      have e1 : zsep 32 ((a.take (i + 1)).map znum) = zsep 32 ((a.take i).map znum) ++ 32 :: znum (a.getD i 0) := by rw [hts, zsep_snoc 32 _ _ hne]
      rw [e1, List.length_append, List.length_cons] at hm1
      refine C_sign hst ho' ?_ (fun s2 r1 r2 => ⟨rfl, h3, by rw [h4]; exact inB_n hi, a.getD i 0, by rw [nI_clamp (n := i) (by omega)]; exact h5 i hi, ?_⟩)
      · rw [List.length_append, List.length_cons]; omega
      · refine C_number hst r2 ?_ (fun s3 t1 t2 => ⟨rfl, ?_⟩)
        · rw [List.length_append, List.length_append, List.length_cons]
          show out.length + (_ + 1) + 1 + _ < _
          omega
        · rw [nI_1]
          refine ih s3 ((hf.trans r1).trans t1) ?_
          rw [e1]
          rw [List.append_assoc, List.append_assoc] at t2
          exact t2
/-- a thing comes out, whichever it is -/
def VF (l : Launch) (E : EN) (w : CO) (d p : Nat) (s : CS) (f : RH) (Q : KO → CS → RH → Prop) : Prop := ∃ k : Nat, oc f p k ∧ ((k = 29 ∧ EvC l E w d MX32_form [.ref p, .ref (w.1 8)] s f Q) ∨ (k = 30 ∧ EvC l E w d MX33_form [.ref p, .ref (w.1 8)] s f Q) ∨ (k = 31 ∧ EvC l E w d MX34_form [.ref p, .ref (w.1 8)] s f Q) ∨ (k = 32 ∧ EvC l E w d MX35_form [.ref p, .ref (w.1 8)] s f Q))
def FmP (l : Launch) (E : EN) (w : CO) (f : RH) (b : Nat) (t : Th) : Prop := ∀ (d : Nat) (s : CS) (out : List Int32) (v : Value) (Q : KO → CS → RH → Prop), 3 + zd t ≤ d → rcT f.2.2.1 (ez E) b true t (fun _ => v) → cOut s out → out.length + (zform 0 t).length < 2 ^ 31 → (∀ s', cfO s s' → cOut s' (out ++ zform 0 t) → Q (.inl none) s' f) → ∃ p, v = .ref p ∧ VF l E w d p s f Q
theorem C_form (hst : l.stackTraces = false) {b : Nat} : ∀ t, ZW t → FmP l E w f b t := by
  refine zind (P := fun t => FmP l E w f b t) ?_ ?_ ?_ ?_
  · intro v0 d s out v Q hd hv ho hl hQ
    obtain ⟨d, rfl⟩ : ∃ d', d = d' + 2 := ⟨d - 2, by omega⟩
    obtain ⟨q, y1, _, y3⟩ := rcT.ocl hv
    obtain ⟨p, k, v1, v2, v3, v4⟩ : ∃ (p : Nat) (k : Nat → Value), v = .ref p ∧ p < b ∧ f.2.2.1 p = some (.inl 32, 0, k) ∧ k 209 = .int v0 := hv
    rw [v1] at y1
    injection y1 with y1
    subst y1
    have y3 : oc f p 32 := y3
    exact ⟨p, v1, 32, y3, Or.inr (Or.inr (Or.inr ⟨rfl, eX35_form hst ⟨y3, v0, by unfold vl; rw [v3]; exact v4, C_number hst ho hl (fun s' q1 q2 => ⟨rfl, hQ s' q1 q2⟩)⟩⟩))⟩
  · intro a ha d s out v Q hd hv ho hl hQ
    obtain ⟨d, rfl⟩ : ∃ d', d = d' + 3 := ⟨d - 3, by omega⟩
    obtain ⟨p, q, v1, v2, v3, v4, v5, v6, v7, v8, _⟩ := rcT.row hv
    exact ⟨p, v1, 29, v3, Or.inl ⟨rfl, eX32_form hst ⟨v3, q, v4, C_formRow hst v6 v7 v8 ha ho hl (fun s' q1 q2 => ⟨rfl, hQ s' q1 q2⟩)⟩⟩⟩
  · intro a ha1 ha2 ha3 d s out v Q hd hv ho hl hQ
    obtain ⟨d, rfl⟩ : ∃ d', d = d' + 3 := ⟨d - 3, by omega⟩
    obtain ⟨p, q, v1, v2, v3, v4, v5, v6, v7, v8⟩ := rcT.tab hv
    refine ⟨p, v1, 30, v3, Or.inr (Or.inl ⟨rfl, ?_⟩)⟩
    have ez : zform 0 (zT a) = 123 :: (a.map zfrow).flatten ++ [125] := rfl
    have hmono : ∀ i, (((a.take i).map zfrow).flatten).length ≤ ((a.map zfrow).flatten).length := by
      intro i
      have : ((a.map zfrow).flatten).length = (((a.take i).map zfrow).flatten).length + (((a.drop i).map zfrow).flatten).length := by
        rw [← List.length_append, ← List.flatten_append, ← List.map_append, List.take_append_drop]
      omega
    rw [ez, List.length_append, List.length_cons] at hl
    have hl : out.length + (((a.map zfrow).flatten).length + 1 + 1) < 2 ^ 31 := hl
    refine eX33_form hst (C_sign hst ho (by omega) (fun s1 q1 q2 => ⟨rfl, ?_⟩))
    refine dn (P := fun i => ∀ (s' : CS), cfO s s' → cOut s' (out ++ 123 :: ((a.take i).map zfrow).flatten) → ExC l E w (d + 3) MX33_form 8 [some (.ref p), some (.ref (w.1 8)), some (.int (nI i))] [] s' f Q) a.length ?_ (fun i hi ih => ?_) s1 q1 q2
    · intro s' hf ho'
      rw [List.take_of_length_le (Nat.le_refl _)] at ho'
      refine vX33_form_8 ⟨v3, q, v4, 11, v6, ?_⟩
      rw [v7]
      refine pk_le a.length a.length (fun _ => C_sign hst ho' ?_ (fun s2 r1 r2 => ⟨rfl, hQ s2 (hf.trans r1) ?_⟩)) (fun c => by omega) rfl rfl
      · rw [List.length_append, List.length_cons]; omega
      · rw [ez]
        rw [List.append_assoc] at r2
        exact r2
    · intro s' hf ho'
      have hts : ((a.take (i + 1)).map zfrow).flatten = ((a.take i).map zfrow).flatten ++ zfrow (a.getD i []) := by
        rw [take_succ_getD a [] i (by omega), List.map_append, List.flatten_append]
        show _ ++ ([zfrow (a.getD i [])]).flatten = _
        rw [List.flatten_singleton]
      have hm1 := hmono (i + 1)
      rw [hts, List.length_append] at hm1
      obtain ⟨y, y1, y2, y3, y4, y5⟩ := (v8 i hi).vw
      refine vX33_form_8 ⟨v3, q, v4, 11, v6, ?_⟩
      rw [v7]
      refine pk_le a.length i (fun c => by omega) (fun _ => ⟨v3, q, v4, 11, by decide, v6, by rw [v7]; exact inB_n hi, y, by rw [nI_clamp (n := i) (by omega)]; exact y1, ?_⟩) rfl rfl
      refine C_formRow hst y3 y4 y5 (ha3 _ (getD_mem [] hi)) ho' ?_ (fun s2 r1 r2 => ⟨rfl, ?_⟩)
      · rw [List.length_append, List.length_cons]; omega
      · rw [nI_1]
        refine ih s2 (hf.trans r1) ?_
        rw [hts]
        rw [List.append_assoc] at r2
        exact r2
  · intro tl h20 hb6 hd3 IH d s out v Q hd hv ho hl hQ
    rw [zd_zP] at hd
    obtain ⟨d, rfl⟩ : ∃ d', d = d' + 1 := ⟨d - 1, by omega⟩
    obtain ⟨p, q, v1, v2, v3, v4, v5, v6, v7, _, _, v8⟩ := rcT.pack hv
    refine ⟨p, v1, 31, v3, Or.inr (Or.inr (Or.inl ⟨rfl, ?_⟩))⟩
    have ez : zform 0 (zP tl) = 40 :: zform 1 (zsp tl) ++ [41] := rfl
    refine eX34_form hst (C_sign hst ho ?_ (fun s1 q1 q2 => ⟨rfl, ?_⟩))
    · rw [ez, List.length_append, List.length_cons] at hl
      have hl : out.length + (_ + 1 + 1) < 2 ^ 31 := hl
      omega
    refine dn (P := fun i => ∀ (s' : CS) (out1 : List Int32), cfO s s' → cOut s' out1 → out1 ++ (zform (if i = 0 then 1 else 2) (zsp (tl.drop i)) ++ [41]) = out ++ zform 0 (zP tl) → ExC l E w (d + 1) MX34_form 8 [some (.ref p), some (.ref (w.1 8)), some (.int (nI i))] [] s' f Q) tl.length ?_ (fun i hi ih => ?_) s1 (out ++ [40]) q1 q2 (by rw [if_pos rfl, List.drop_zero, List.append_assoc, ez]; rfl)
    · intro s' out1 hf ho' he
      have ef : zform (if tl.length = 0 then 1 else 2) (zsp (tl.drop tl.length)) = [] := by
        rw [List.drop_of_length_le (Nat.le_refl _)]
        split <;> rfl
      rw [ef, List.nil_append] at he
      have hlen := congrArg List.length he
      rw [List.length_append, List.length_append] at hlen
      have hlen : out1.length + 1 = _ := hlen
      refine vX34_form_8 ⟨v3, q, v4, 4, v6, ?_⟩
      rw [v7]
      refine pk_le tl.length tl.length (fun _ => C_sign hst ho' (by omega) (fun s2 r1 r2 => ⟨rfl, hQ s2 (hf.trans r1) ?_⟩)) (fun c => by omega) rfl rfl
      rw [he] at r2; exact r2
    · intro s' out1 hf ho' he
      have hmx : tl.getD i (zI 0) ∈ tl := getD_mem _ hi
      have hdx := zd_mem tl _ hmx
      obtain ⟨wxx, hxi⟩ := IH _ hmx
      have hdr : tl.drop i = tl.getD i (zI 0) :: tl.drop (i + 1) := by
        rw [getD_lt _ (by omega)]; exact List.drop_eq_getElem_cons (by omega)
      have hv8 := v8 i hi
      generalize tl.getD i (zI 0) = x at hmx hdx wxx hxi hdr hv8
      have e2 : (if i + 1 = 0 then 1 else 2) = 2 := if_neg (Nat.succ_ne_zero i)
      rw [e2] at ih
      have hlen := congrArg List.length he
      rw [List.length_append, List.length_append] at hlen
      refine vX34_form_8 ⟨v3, q, v4, 4, v6, ?_⟩
      rw [v7]
      refine pk_le tl.length i (fun c => by omega) (fun _ => pk_le i 0 (fun c0 => ⟨v3, q, v4, 4, by decide, v6, by rw [v7]; exact inB_n hi, ?_⟩) (fun c0 => ?_) rfl rfl) rfl rfl
      · have i0 : i = 0 := by omega
        have ef : zform (if i = 0 then 1 else 2) (zsp (tl.drop i)) = zform 0 x ++ zform 2 (zsp (tl.drop (i + 1))) := by rw [hdr, if_pos i0]; rfl
        rw [ef] at he hlen
        rw [List.length_append, List.length_append] at hlen
        obtain ⟨y, y1, hw⟩ := hxi d s' out1 _ (fun o s2 f2 => o = .inl none ∧ f2 = f ∧ cfO s' s2 ∧ cOut s2 (out1 ++ zform 0 x)) (by omega) hv8 ho' (by omega) (fun s2 r1 r2 => ⟨rfl, rfl, r1, r2⟩)
        refine ⟨y, by rw [nI_clamp (n := i) (by omega)]; exact y1, _, ?_, hw⟩
        rintro o s2 f2 ⟨rfl, rfl, r1, r2⟩
        refine ⟨rfl, ?_⟩
        rw [nI_1]
        refine ih s2 _ (hf.trans r1) r2 ?_
        rw [← he]
        simp only [List.append_assoc]
      · have ef : zform (if i = 0 then 1 else 2) (zsp (tl.drop i)) = 59 :: zform 0 x ++ zform 2 (zsp (tl.drop (i + 1))) := by rw [hdr, if_neg (by omega)]; rfl
        rw [ef] at he hlen
        rw [List.length_append, List.length_append, List.length_cons] at hlen
        refine C_sign hst ho' (by omega) (fun s3 t1 t2 => ?_)
        obtain ⟨y, y1, hw⟩ := hxi d s3 (out1 ++ [59]) _ (fun o s2 f2 => o = .inl none ∧ f2 = f ∧ cfO s3 s2 ∧ cOut s2 (out1 ++ [59] ++ zform 0 x)) (by omega) hv8 t2 (by rw [List.length_append]; show out1.length + 1 + _ < _; omega) (fun s2 r1 r2 => ⟨rfl, rfl, r1, r2⟩)
        refine ⟨rfl, v3, q, v4, 4, by decide, v6, by rw [v7]; exact inB_n hi, y, by rw [nI_clamp (n := i) (by omega)]; exact y1, _, ?_, hw⟩
        rintro o s2 f2 ⟨rfl, rfl, r1, r2⟩
        refine ⟨rfl, ?_⟩
        rw [nI_1]
        refine ih s2 _ ((hf.trans t1).trans r1) r2 ?_
        rw [← he]
        simp only [List.append_assoc, List.cons_append, List.nil_append]
end CO1
