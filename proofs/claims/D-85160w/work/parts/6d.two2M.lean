theorem getD_zipWith {α β γ : Type} (g : α → β → γ) (A : List α) (B : List β) (a : α) (b : β) (c : γ) {i : Nat} (h1 : i < A.length) (h2 : i < B.length) : (List.zipWith g A B).getD i c = g (A.getD i a) (B.getD i b) := by
  rw [getD_lt c (by rw [List.length_zipWith]; omega), getD_lt a h1, getD_lt b h2, List.getElem_zipWith]
theorem getD_rep (n : Nat) (v d : Int32) {i : Nat} (h : i < n) : (List.replicate n v).getD i d = v := by
  rw [getD_lt d (by rw [List.length_replicate]; exact h), List.getElem_replicate]
abbrev tw264 (w : MO) (a1 a2 a3 a4 a5 a8 a9 a10 a11 a12 a13 : Int32) : LO := [some (.ref w.1), some (.int a1), some (.int a2), some (.int a3), some (.int a4), some (.int a5), none, none, some (.int a8), some (.int a9), some (.int a10), some (.int a11), some (.int a12), some (.int a13), none, none, none, none, none, none, none]
abbrev tw354 (w : MO) (a1 a2 a3 a4 a5 a8 a9 a10 a11 a13 : Int32) : LO := [some (.ref w.1), some (.int a1), some (.int a2), some (.int a3), some (.int a4), some (.int a5), none, none, some (.int a8), some (.int a9), some (.int a10), some (.int a11), none, some (.int a13), none, none, none, none, none, none, none]
abbrev tw414 (w : MO) (a1 a2 a3 a4 a5 a8 a9 a10 a11 a13 a14 a15 a16 a17 a18 : Int32) : LO := [some (.ref w.1), some (.int a1), some (.int a2), some (.int a3), some (.int a4), some (.int a5), none, none, some (.int a8), some (.int a9), some (.int a10), some (.int a11), none, some (.int a13), some (.int a14), some (.int a15), some (.int a16), some (.int a17), some (.int a18), none, none]
section MT2
variable {l : Launch} {E : EN} {w : MO} {d : Nat} {s : MS} {Q : Option Value → MS → Prop}
/-- a row beside another one, or an INT -/
theorem M_tw414 (hst : l.stackTraces = false) {sg : Int32} (hs : sg ∈ zSg) {b n md b1 L : Nat} {s0 : MS} {xs : List Th} {a2 a3 a4 a5 a8 a10 a11 a13 a14 a15 a17 : Int32} {p q : Option (List Int32)}
    (hp : (p = none ∧ a14 = -1) ∨ ∃ r z, p = some r ∧ a14 = nI z ∧ rmT (s0.2.2.1 104) b true (zR r) z 0) (hq : (q = none ∧ a15 = -1) ∨ ∃ r z, q = some r ∧ a15 = nI z ∧ rmT (s0.2.2.1 104) b true (zR r) z 0)
    (hlA : (p.getD (List.replicate L a3)).length = L) (hlB : (q.getD (List.replicate L a5)).length = L) (hL : L ≤ 64) (hb : b ≤ 157600) (hb1 : b1 ≤ b + 300) (hn : n + xs.length ≤ 8400) (hmd : s0.1 119 = nI md) (h0 : s0.1 123 = 0)
    (h6 : (∃ j, j < L ∧ zdv sg = true ∧ (q.getD (List.replicate L a5)).getD j 0 = 0) → ∀ s', mop b n md (.inl 6) s0 s' → Q none s')
    (hK : (¬ ∃ j, j < L ∧ zdv sg = true ∧ (q.getD (List.replicate L a5)).getD j 0 = 0) → ∀ s', MAcc b n s0 b1 (xs ++ (List.zipWith (zact sg) (p.getD (List.replicate L a3)) (q.getD (List.replicate L a5))).map zI) s' → ExM l E w (d + 4) MX10_two 414 (tw414 w (zsM sg) a2 a3 a4 a5 a8 (fl (zdv sg)) a10 a11 a13 a14 a15 (nI L) a17 (nI L)) [] s' Q) :
    ∀ m j (s' : MS), j + m = L → MAcc b n s0 b1 (xs ++ ((List.zipWith (zact sg) (p.getD (List.replicate L a3)) (q.getD (List.replicate L a5))).take j).map zI) s' → (∀ k, k < j → ¬ (zdv sg = true ∧ (q.getD (List.replicate L a5)).getD k 0 = 0)) → ExM l E w (d + 4) MX10_two 414 (tw414 w (zsM sg) a2 a3 a4 a5 a8 (fl (zdv sg)) a10 a11 a13 a14 a15 (nI L) a17 (nI j)) [] s' Q := by
  have hlZ : (List.zipWith (zact sg) (p.getD (List.replicate L a3)) (q.getD (List.replicate L a5))).length = L := by rw [List.length_zipWith, hlA, hlB, Nat.min_self]
  intro m
  induction m with
  | zero =>
    intro j s' hj hA hz
    have hj : j = L := hj
    subst hj
    rw [List.take_of_length_le (by omega)] at hA
    exact hK (fun ⟨k, k1, k2⟩ => hz k k1 k2) s' hA
  | succ m ih =>
    intro j s' hj hA hz
    have hjL : j < L := by omega
    have hts := take_succ_getD (List.zipWith (zact sg) (p.getD (List.replicate L a3)) (q.getD (List.replicate L a5))) 0 j (by omega)
    rw [getD_zipWith (zact sg) _ _ 0 0 0 (by omega) (by omega)] at hts
    have act : ∀ av bv, av = (p.getD (List.replicate L a3)).getD j 0 → bv = (q.getD (List.replicate L a5)).getD j 0 → (zdv sg = true → ¬ bv = 0) → EvM l E w (d + 3) MX10_act [.int (zsM sg), .int av, .int bv] s' (fun r s2 => ∃ v3 : Int32, r = some (.int v3) ∧ (EvM l E w (d + 3) MX10_push [.ref w.1, .int 0, .int v3] s2 (fun r s4 => r = none ∧ ExM l E w (d + 4) MX10_two 414 (tw414 w (zsM sg) a2 a3 a4 a5 a8 (fl (zdv sg)) a10 a11 a13 a14 a15 (nI L) a17 (nI j + 1)) [] s4 Q))) := by
      intro av bv ea eb hzz
      refine M_act hst hs hzz ⟨_, rfl, ?_⟩
      have hl2 : (xs ++ ((List.zipWith (zact sg) (p.getD (List.replicate L a3)) (q.getD (List.replicate L a5))).take j).map zI).length = xs.length + j := by rw [List.length_append, List.length_map, List.length_take, hlZ]; omega
      have hsp := hA.sp
      rw [hl2] at hsp
      refine M_push hst hsp (by omega) ⟨rfl, ?_⟩
      rw [nI_1]
      refine ih (j + 1) _ (by omega) ?_ (fun k hk => ?_)
      · have := hA.pushI (zact sg av bv) (by rw [hl2]; omega)
        rw [hl2] at this
        rw [hts, List.map_append, ← List.append_assoc, ← ea, ← eb]
        exact this
      · by_cases e : k = j
        · subst e
          rintro ⟨z1, z2⟩
          exact hzz z1 (eb.trans z2)
        · exact hz k (by omega)
    have fin : ∀ av bv, av = (p.getD (List.replicate L a3)).getD j 0 → bv = (q.getD (List.replicate L a5)).getD j 0 → ((fl (zdv sg) = 0 → EvM l E w (d + 3) MX10_act [.int (zsM sg), .int av, .int bv] s' (fun r s2 => ∃ v3 : Int32, r = some (.int v3) ∧ (EvM l E w (d + 3) MX10_push [.ref w.1, .int 0, .int v3] s2 (fun r s4 => r = none ∧ ExM l E w (d + 4) MX10_two 414 (tw414 w (zsM sg) a2 a3 a4 a5 a8 (fl (zdv sg)) a10 a11 a13 a14 a15 (nI L) a17 (nI j + 1)) [] s4 Q)))) ∧ (¬ fl (zdv sg) = 0 → ((¬ bv = 0 → EvM l E w (d + 3) MX10_act [.int (zsM sg), .int av, .int bv] s' (fun r s2 => ∃ v3 : Int32, r = some (.int v3) ∧ (EvM l E w (d + 3) MX10_push [.ref w.1, .int 0, .int v3] s2 (fun r s4 => r = none ∧ ExM l E w (d + 4) MX10_two 414 (tw414 w (zsM sg) a2 a3 a4 a5 a8 (fl (zdv sg)) a10 a11 a13 a14 a15 (nI L) a17 (nI j + 1)) [] s4 Q)))) ∧ (bv = 0 → EvM l E w (d + 3) MX10_trouble [.ref w.1, .int 6, .int (s'.1 127)] s' (fun r s8 => r = none ∧ Q none s8))))) := by
      intro av bv ea eb
      refine ⟨fun c => act av bv ea eb (fun z => ?_), fun c => ⟨fun c2 => act av bv ea eb (fun _ => c2), fun c2 => ?_⟩⟩
      · rw [z] at c; exact absurd c (by decide)
      · have z : zdv sg = true := by
          cases e : zdv sg with
          | true => rfl
          | false => rw [e] at c; exact absurd rfl c
        exact M_tmop hst hA.1 hA.2.2.1 hA.2.1 hb1 hmd h0 (hA.1.1 127 (by decide)) rfl (fun s'' qq => ⟨rfl, h6 ⟨j, hjL, z, eb.symm.trans c2⟩ s'' qq⟩)
    refine vX10_two_414 (pk_le L j (fun c => by omega) (fun _ => ?_) rfl rfl)
    have neg : ((-1 : Int32) < 0) := by decide
    rcases hp with ⟨rfl, rfl⟩ | ⟨r, z, rfl, rfl, hr⟩
    · refine ⟨fun _ => ?_, fun c => absurd neg c⟩
      have ea : a3 = ((none : Option (List Int32)).getD (List.replicate L a3)).getD j 0 := (getD_rep L a3 0 hjL).symm
      rcases hq with ⟨rfl, rfl⟩ | ⟨r', z', rfl, rfl, hr'⟩
      · refine ⟨fun _ => ?_, fun c => absurd neg c⟩
        exact fin _ _ ea (getD_rep L a5 0 hjL).symm
      · have hl : r'.length = L := hlB
        obtain ⟨r1, r2⟩ := hA.rowAt hr' (show j < r'.length by omega)
        refine ⟨fun c => absurd c (nI_pos (by omega)), fun _ => ?_⟩
        rw [nI_l2, nI_add, nI_clamp (by omega), r2]
        exact ⟨inB_n (by omega), fun y ey => fin _ _ ea ey⟩
    · have hl0 : r.length = L := hlA
      obtain ⟨r1, r2⟩ := hA.rowAt hr (show j < r.length by omega)
      refine ⟨fun c => absurd c (nI_pos (by omega)), fun _ => ?_⟩
      rw [nI_l2, nI_add, nI_clamp (by omega), r2]
      refine ⟨inB_n (by omega), fun y ey => ?_⟩
      rcases hq with ⟨rfl, rfl⟩ | ⟨r', z', rfl, rfl, hr'⟩
      · refine ⟨fun _ => ?_, fun c => absurd neg c⟩
        exact fin _ _ ey (getD_rep L a5 0 hjL).symm
      · have hl : r'.length = L := hlB
        obtain ⟨t1, t2⟩ := hA.rowAt hr' (show j < r'.length by omega)
        refine ⟨fun c => absurd c (nI_pos (by omega)), fun _ => ?_⟩
        rw [nI_l2, nI_add, nI_clamp (by omega), t2]
        exact ⟨inB_n (by omega), fun y' ey' => fin _ _ ey ey'⟩
end MT2
