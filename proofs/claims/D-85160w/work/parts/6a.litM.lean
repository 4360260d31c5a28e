def fl (c : Bool) : Int32 := if c = true then 1 else 0
theorem fl_t : fl true = 1 := rfl
theorem fl_f : fl false = 0 := rfl
theorem zm_zof {k : Nat} (vs : List Th) (hk : k = 1 ∨ k = 2 ∨ k = 3) : 2 + (if k = 3 then 2 * vs.length else vs.length) ≤ zm (zof k vs) := by
  rcases hk with rfl | rfl | rfl
  · show _ ≤ 4 + (vs.map zv).length
    rw [List.length_map, if_neg (by decide)]; omega
  · show _ ≤ 4 + 4 * (vs.map zr).length + zis (vs.map zr)
    rw [List.length_map, if_neg (by decide)]; omega
  · show _ ≤ 4 + 2 * (zl (zsp vs)).length
    rw [zl_zsp, if_pos rfl]; omega
theorem all_take_succ (g : Th → Bool) (l : List Th) (i : Nat) (h : i < l.length) : (l.take (i + 1)).all g = ((l.take i).all g && g (l.getD i (zI 0))) := by
  rw [take_succ_getD l (zI 0) i h, List.all_append]; simp
section MO3
variable {l : Launch} {E : EN} {w : MO} {d : Nat} {s : MS} {Q : Option Value → MS → Prop}
/-- building out of what there was -/
theorem M_bm0 (hst : l.stackTraces = false) {b n md k : Nat} {vs : List Th} {s0 : MS} (ha : MAcc b n s0 b vs s) (hk : k = 1 ∨ k = 2 ∨ k = 3) (h1 : k = 1 → ∀ v ∈ vs, zk v = 0) (h2 : k = 2 → ∀ v ∈ vs, zk v = 1) (h3 : ∀ v ∈ vs, ZW v) (hb : b ≤ 157600) (hn8 : n < 8900) (hmd : s0.1 119 = nI md) (hm3 : md ≤ 3000) (h0 : s0.1 123 = 0) (hQ : ∀ s', mop b n md (zmk (zof k vs)) s0 s' → Q none s') : EvM l E w (d + 3) MX10_builds [.ref w.1, .int (nI k), .int (nI n)] s Q :=
  M_bmop hst ha hk h1 h2 h3 (by omega) hn8 hmd hm3 h0 (fun _ => by have := zm_zof vs hk; omega) (by omega) hQ
theorem MOk.acc0 {b n md : Nat} {args : List Th} {s : MS} (h : MOk b n md args s) : MAcc b n s b args s := ⟨mfr.rf J0 b n s, Nat.le_refl b, h.1⟩
theorem M_literal (hst : l.stackTraces = false) {b n md : Nat} {xs : List Th} (hi : MOk b n md xs s) (hQ : ∀ s', mop b n md (zbuild xs) s s' → Q none s') : EvM l E w (d + 4) MX10_literal [.ref w.1, .int (nI n)] s Q := by
  have ha := hi.acc0
  obtain ⟨⟨m1, m2, m3, m4, m5⟩, hb, hn, hmd, hm3, h0, hw⟩ := hi
  refine eX10_literal hst ?_
  have main : ∀ m i, i + m = xs.length → ExM l E w (d + 4) MX10_literal 7 [some (.ref w.1), some (.int (nI n)), some (.int (fl ((xs.take i).all (fun t => zk t == 0)))), some (.int (fl ((xs.take i).all (fun t => zk t == 1)))), some (.int (nI (n + i)))] [] s Q := by
    intro m
    induction m with
    | zero =>
      intro i hi'
      have hi' : i = xs.length := hi'
      subst hi'
      rw [List.take_length]
      refine vX10_literal_7 ?_
      rw [m4]
      refine pk_le _ _ (fun _ => ?_) (fun c => by omega) rfl rfl
      have hzb : zbuild xs = if xs.all (fun t => zk t == 0) = true then zmk (zof 1 xs) else if xs.all (fun t => zk t == 1) = true then zmk (zof 2 xs) else .inl 3 := rfl
      cases e0 : xs.all (fun t => zk t == 0) with
      | true =>
        rw [e0, if_pos rfl] at hzb
        refine ⟨fun c => absurd c (by decide), fun _ => M_bm0 hst (k := 1) ha (Or.inl rfl) (fun _ v hv => ?_) (fun c => absurd c (by decide)) hw hb (by omega) hmd hm3 h0 (fun s' q => ⟨rfl, hQ s' (by rw [hzb]; exact q)⟩)⟩
        have := List.all_eq_true.mp e0 v hv
        simpa using this
      | false =>
        refine ⟨fun _ => ?_, fun c => absurd rfl c⟩
        rw [e0, if_neg (by decide)] at hzb
        cases e1 : xs.all (fun t => zk t == 1) with
        | true =>
          rw [e1, if_pos rfl] at hzb
          refine ⟨fun c => absurd c (by decide), fun _ => M_bm0 hst (k := 2) ha (Or.inr (Or.inl rfl)) (fun c => absurd c (by decide)) (fun _ v hv => ?_) hw hb (by omega) hmd hm3 h0 (fun s' q => ⟨rfl, hQ s' (by rw [hzb]; exact q)⟩)⟩
          have := List.all_eq_true.mp e1 v hv
          simpa using this
        | false =>
          rw [e1, if_neg (by decide)] at hzb
          exact ⟨fun _ => M_tmop hst ha.1 m1 (Nat.le_refl b) (by omega) hmd h0 rfl rfl (fun s' q => ⟨rfl, hQ s' (by rw [hzb]; exact q)⟩), fun c => absurd rfl c⟩
    | succ m ih =>
      intro i hi'
      have nx := ih (i + 1) (by omega)
      rw [all_take_succ _ xs i (by omega), all_take_succ _ xs i (by omega)] at nx
      have hx := m5 i (by omega)
      refine vX10_literal_7 ?_
      rw [m4]
      refine pk_le _ _ (fun c => by omega) (fun _ => ?_) rfl rfl
      rw [nI_1, nI_clamp (by omega)]
      have e3 : n + i + 1 = n + (i + 1) := rfl
      rw [e3]
      revert nx hx
      generalize xs.getD i (zI 0) = x
      intro nx hx
      have hki : ∀ Q' : Option Value → MS → Prop, Q' (some (.int (nI (zk x)))) s → EvM l E w (d + 3) MX10_kindAt [.ref w.1, .int (nI (n + i))] s Q' := fun Q' q => M_kindAt hst hx (by omega) (by omega) q
      have hsk : s.2.2.1 106 (n + i) = 0 ↔ zk x = 0 := by
        rcases hx with ⟨a1, a2, _⟩ | ⟨a1, a2, _⟩
        · exact ⟨fun _ => a1, fun _ => a2⟩
        · exact ⟨fun c => absurd (c.symm.trans a2) (by decide), fun c => absurd c a1⟩
      have hz1 : nI (zk x) = 1 ↔ zk x = 1 := by
        rcases zk_c x with e | e | e | e <;> rw [e] <;> decide
      generalize (xs.take i).all (fun t => zk t == 0) = A at nx
      generalize (xs.take i).all (fun t => zk t == 1) = B at nx
      by_cases c0 : zk x = 0
      · have c1 : ¬ zk x = 1 := by omega
        rw [show (zk x == 0) = true by simpa using c0, show (zk x == 1) = false by simpa using c1, Bool.and_true, Bool.and_false] at nx
        cases A with
        | true =>
          refine ⟨fun c => absurd c (by decide), fun _ => ⟨inB_n (by omega), fun c => absurd (hsk.mpr c0) c, fun _ => ?_⟩⟩
          cases B with
          | true => exact ⟨fun c => absurd c (by decide), fun _ => hki _ ⟨_, rfl, fun _ => nx, fun c => absurd (hz1.mp c) c1⟩⟩
          | false => exact ⟨fun _ => nx, fun c => absurd rfl c⟩
        | false =>
          refine ⟨fun _ => ?_, fun c => absurd rfl c⟩
          cases B with
          | true => exact ⟨fun c => absurd c (by decide), fun _ => hki _ ⟨_, rfl, fun _ => nx, fun c => absurd (hz1.mp c) c1⟩⟩
          | false => exact ⟨fun _ => nx, fun c => absurd rfl c⟩
      · rw [show (zk x == 0) = false by simpa using c0, Bool.and_false] at nx
        by_cases c1 : zk x = 1
        · rw [show (zk x == 1) = true by simpa using c1, Bool.and_true] at nx
          cases A with
          | true =>
            refine ⟨fun c => absurd c (by decide), fun _ => ⟨inB_n (by omega), fun _ => ?_, fun c => absurd (hsk.mp c) c0⟩⟩
            cases B with
            | true => exact ⟨fun c => absurd c (by decide), fun _ => hki _ ⟨_, rfl, fun c => absurd (hz1.mpr c1) c, fun _ => nx⟩⟩
            | false => exact ⟨fun _ => nx, fun c => absurd rfl c⟩
          | false =>
            refine ⟨fun _ => ?_, fun c => absurd rfl c⟩
            cases B with
            | true => exact ⟨fun c => absurd c (by decide), fun _ => hki _ ⟨_, rfl, fun c => absurd (hz1.mpr c1) c, fun _ => nx⟩⟩
            | false => exact ⟨fun _ => nx, fun c => absurd rfl c⟩
        · rw [show (zk x == 1) = false by simpa using c1, Bool.and_false] at nx
          cases A with
          | true =>
            refine ⟨fun c => absurd c (by decide), fun _ => ⟨inB_n (by omega), fun _ => ?_, fun c => absurd (hsk.mp c) c0⟩⟩
            cases B with
            | true => exact ⟨fun c => absurd c (by decide), fun _ => hki _ ⟨_, rfl, fun _ => nx, fun c => absurd (hz1.mp c) c1⟩⟩
            | false => exact ⟨fun _ => nx, fun c => absurd rfl c⟩
          | false =>
            refine ⟨fun _ => ?_, fun c => absurd rfl c⟩
            cases B with
            | true => exact ⟨fun c => absurd c (by decide), fun _ => hki _ ⟨_, rfl, fun _ => nx, fun c => absurd (hz1.mp c) c1⟩⟩
            | false => exact ⟨fun _ => nx, fun c => absurd rfl c⟩
  exact main xs.length 0 (by omega)
end MO3
