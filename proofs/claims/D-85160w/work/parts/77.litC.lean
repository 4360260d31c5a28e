/-! THE COMPONENT: ends of orders; literals -/
def bI : Bool → Int32
  | true => 1
  | false => 0
theorem cop.tr {E : EN} {n md k : Nat} {r : Nat ⊕ Th} {place kk : Int32} {s : CS} {f f' : RH} (hr : r = .inl k) (hkk : kk = nI k) (hmd : s.1 40 = nI md) (hb : f'.2.1 ≤ f.2.1 + 800) : cop E n md r place s f (.inr 9) (cwrong s kk place) (frz f') := by
  subst hr
  exact ⟨cwrong_fr JC n s kk place, rfl, hkk, rfl, rfl, hmd, hb⟩
section CL
variable {l : Launch} {E : EN} {w : CO} {d : Nat} {s : CS} {f : RH} {Q : KO → CS → RH → Prop}
theorem COk.v1 {n md : Nat} {x : Th} (h : COk E n md [x] s f) : rcV E f (s.2.2.1 24 n) (s.2.2.2 25 n) x ∧ ZW x ∧ s.1 26 = nI (n + 1) ∧ n ≤ 8379 := ⟨h.2.2.2 0 (Nat.succ_pos _), h.2.2.1 x List.mem_cons_self, h.1.1, by have := h.1.2.1; have : n + 1 ≤ 8380 := this; omega⟩
theorem COk.v2 {n md : Nat} {x y : Th} (h : COk E n md [x, y] s f) : rcV E f (s.2.2.1 24 n) (s.2.2.2 25 n) x ∧ rcV E f (s.2.2.1 24 (n + 1)) (s.2.2.2 25 (n + 1)) y ∧ ZW x ∧ ZW y ∧ s.1 26 = nI (n + 2) ∧ n ≤ 8378 := ⟨h.2.2.2 0 (Nat.succ_pos _), h.2.2.2 1 (Nat.lt_succ_self _), h.2.2.1 x List.mem_cons_self, h.2.2.1 y (List.mem_cons_of_mem _ List.mem_cons_self), h.1.1, by have := h.1.2.1; have : n + 2 ≤ 8380 := this; omega⟩
/-- a thing has come -/
theorem C_finG (hst : l.stackTraces = false) {n parts md p c : Nat} {place : Int32} {t : Th} {s0 : CS} {f0 : RH} {r : Nat ⊕ Th} (hr : r = .inr t) (hf : cfr JC n s0 s) (hfb : f.2.1 ≤ f0.2.1 + c) (h : rcT f.2.2.1 (ez E) f.1 true t (fun _ => .ref p)) (hk : ¬ zk t = 0) (hZ : ZW t) (hn : s.1 26 = nI (n + parts)) (h8 : n + parts ≤ 8380) (hmd : s.1 40 = nI md) (hm3 : md ≤ 3000) (hc : c ≤ 2 * zm t) (hQ : ∀ o s', (o = .inr 9 ∨ o = .inl none) → cop E n md r place s0 f0 o s' (frz f) → Q o s' f) : EvC l E w (d + 2) MX3_give_2 [.ref (w.1 3), .ref p, .int (nI parts), .int place] s f Q := by
  subst hr
  have hzm := zw_zm hZ
  refine C_give hst h hk (fun a e => ?_) (by omega) hn (by omega) (by omega) hmd hm3 (fun c => hQ _ _ (Or.inr rfl) ⟨?_, hZ, rfl, ?_, ?_⟩) (fun c => hQ _ _ (Or.inl rfl) ⟨?_, hZ, rfl, ?_, ?_⟩)
  · subst e
    exact ⟨by have := hZ.1; omega, hZ.2.2⟩
  · exact hf.trans (((cfr.uI JC n s 40 _).trans (cfr.uI JC n _ 26 _)).trans (cpsh_fr JC _ _ _ (Nat.le_refl n)))
  · show f.2.1 ≤ _
    omega
  · rw [if_neg (by omega)]
    refine ⟨rfl, rfl, ?_⟩
    rw [cpsh_n, cpsh_t, if_pos rfl, if_pos rfl]
    exact (rcV_thing hk).mpr h
  · exact hf.trans ((cfr.uI JC n s 40 _).trans (cwrong_fr JC n _ _ _))
  · show f.2.1 ≤ _
    omega
  · rw [if_pos ⟨c, hk⟩]
    exact ⟨rfl, rfl, rfl, rfl⟩
theorem C_fin (hst : l.stackTraces = false) {n parts md p c : Nat} {place : Int32} {t : Th} {s0 : CS} {f0 : RH} {r : Nat ⊕ Th} (hr : r = .inr t) (hf : cfr JC n s0 s) (hfb : f.2.1 ≤ f0.2.1 + c) (h : rcT f.2.2.1 (ez E) f.1 true t (fun _ => .ref p)) (hk : ¬ zk t = 0) (hZ : ZW t) (hn : s.1 26 = nI (n + parts)) (h8 : n + parts ≤ 8380) (hmd : s.1 40 = nI md) (hm3 : md ≤ 3000) (hc : c ≤ 2 * zm t) (hQ : ∀ o s' f', cop E n md r place s0 f0 o s' f' → Q o s' f') : EvC l E w (d + 2) MX3_give_2 [.ref (w.1 3), .ref p, .int (nI parts), .int place] s f (fun o s1 f2 => KP o (fun r => r = none ∧ Q (.inl none) s1 (frz f2)) (fun k => Q (.inr k) s1 (frz f2))) := by
  refine C_finG hst hr hf hfb h hk hZ hn h8 hmd hm3 hc ?_
  rintro o s' (rfl | rfl) q
  · exact hQ _ _ _ q
  · exact ⟨rfl, hQ _ _ _ q⟩
/-- an INT has come -/
theorem C_finIG (hst : l.stackTraces = false) {n parts md : Nat} {v place : Int32} {s0 : CS} {f0 : RH} {r : Nat ⊕ Th} (hr : r = .inr (zI v)) (hf : cfr JC n s0 s) (hb : f.2.1 ≤ f0.2.1) (hn : s.1 26 = nI (n + parts)) (h8 : n + parts ≤ 8380) (hmd : s.1 40 = nI md) (hQ : ∀ s', cop E n md r place s0 f0 (.inl none) s' (frz f) → Q (.inl none) s' f) : EvC l E w (d + 1) MX3_give [.ref (w.1 3), .int v, .int (nI parts)] s f Q := by
  subst hr
  refine C_giveI hst hn (by omega) (by omega) (hQ _ ⟨hf.trans ((cfr.uI JC n s 26 _).trans (cpsh_fr JC _ _ _ (Nat.le_refl n))), trivial, hmd, hb, ?_⟩)
  rw [if_neg (fun z => z.2 rfl)]
  refine ⟨rfl, rfl, ?_⟩
  rw [cpsh_n, cpsh_t, if_pos rfl, if_pos rfl]
  exact ⟨rfl, rfl⟩
theorem C_finI (hst : l.stackTraces = false) {n parts md : Nat} {v place : Int32} {s0 : CS} {f0 : RH} {r : Nat ⊕ Th} (hr : r = .inr (zI v)) (hf : cfr JC n s0 s) (hb : f.2.1 ≤ f0.2.1) (hn : s.1 26 = nI (n + parts)) (h8 : n + parts ≤ 8380) (hmd : s.1 40 = nI md) (hQ : ∀ o s' f', cop E n md r place s0 f0 o s' f' → Q o s' f') : EvC l E w (d + 1) MX3_give [.ref (w.1 3), .int v, .int (nI parts)] s f (fun o s1 f2 => KP o (fun r => r = none ∧ Q (.inl none) s1 (frz f2)) (fun k => Q (.inr k) s1 (frz f2))) :=
  C_finIG hst hr hf hb hn h8 hmd (fun s' q => ⟨rfl, hQ _ _ _ q⟩)
/-- a trouble has come -/
theorem C_finW (hst : l.stackTraces = false) {n md k : Nat} {place kk : Int32} {s0 : CS} {f0 : RH} {r : Nat ⊕ Th} (hr : r = .inl k) (hkk : kk = nI k) (hf : cfr JC n s0 s) (hmd : s.1 40 = nI md) (hb : f.2.1 ≤ f0.2.1 + 800) (hQ : ∀ o s' f', cop E n md r place s0 f0 o s' f' → Q o s' f') : EvC l E w d MX3_wrong [.ref (w.1 3), .int kk, .int place] s f (fun o s1 f2 => KP o (fun r => r = some (.ref (w.1 9)) ∧ Q (.inr 9) s1 (frz f2)) (fun k => Q (.inr k) s1 (frz f2))) := by
  subst hr
  exact C_wrongO hst hkk hf hmd hb hQ
theorem all_takeC (A : List Th) (p : Th → Bool) (k : Nat) (hk : k < A.length) : (A.take (k + 1)).all p = ((A.take k).all p && p (A.getD k (zI 0))) := by
  rw [take_succ_getD A (zI 0) k hk, List.all_append]
  simp
theorem C_isInt (hst : l.stackTraces = false) {i : Nat} {t : Th} {n : Int32} (hi : i < 8400) (h : rcV E f n (s.2.2.2 25 i) t) (hQ : Q (.inl (some (.int (bI (zk t == 0))))) s f) : EvC l E w d MX3_isInt [.ref (w.1 3), .int (nI i)] s f Q := by
  refine eX3_isInt hst ?_
  rw [nI_clamp (by omega)]
  refine ⟨inB_n hi, _, rfl, h.isR, fun e => ?_, fun a e => ?_⟩
  · rcases h.cls with ⟨e0, e1, e2⟩ | ⟨p, e1, e2, e3, e4, e5⟩
    · rw [e0] at hQ; exact hQ
    · rw [e] at e1; cases e1
  · rcases h.cls with ⟨e0, e1, e2⟩ | ⟨p, e1, e2, e3, e4, e5⟩
    · rw [e1] at e; cases e
    · rw [beq_false_of_ne e3] at hQ; exact hQ
theorem rcV.isRow {n : Int32} {v : Value} {t : Th} (h : rcV E f n v t) (k : Nat) (hk : 1 ≤ k) (hk3 : k ≤ 3) : (zk t = k → ∃ a : Nat, v = .ref a ∧ tg f a = some (.inl (28 + k))) ∧ (¬ zk t = k → ∀ z : Nat, v = .ref z → ¬ tg f z = some (.inl (28 + k))) := by
  rcases h.cls with ⟨e0, e1, e2⟩ | ⟨p, e1, e2, e3, e4, e5⟩
  · exact ⟨fun c => by omega, fun _ z e => by rw [e1] at e; cases e⟩
  · refine ⟨fun c => ⟨p, e1, by rw [← c]; exact e4.1⟩, fun c z e q => c ?_⟩
    rw [e1] at e
    cases e
    have := e4.1.symm.trans q
    injection this with this
    injection this with this
    omega
/-- a question for a class, where the answer is known -/
theorem is_y {f : RH} {v : Value} {a c : Nat} {X Y : Prop} {A : Nat → Prop} (hv : v = .ref a) (ht : tg f a = some (.inl c)) (h : A a) : (∀ a : Nat, v = .ref a → tg f a = some (.inl c) → A a) ∧ ((∀ z : Nat, v = .ref z → ¬ tg f z = some (.inl c)) → Y) :=
  ⟨fun a' e _ => by rw [hv] at e; cases e; exact h, fun z => absurd ht (z a hv)⟩
theorem is_n {f : RH} {v : Value} {c : Nat} {Y : Prop} {A : Nat → Prop} (hv : ∀ z : Nat, v = .ref z → ¬ tg f z = some (.inl c)) (h : Y) : (∀ a : Nat, v = .ref a → tg f a = some (.inl c) → A a) ∧ ((∀ z : Nat, v = .ref z → ¬ tg f z = some (.inl c)) → Y) :=
  ⟨fun a' e q => absurd q (hv a' e), fun _ => h⟩
theorem all_map_zv {A : List Th} (h : A.all (fun t => zk t == 0) = true) : A = (A.map zv).map zI := by
  rw [List.map_map]
  conv => lhs; rw [← List.map_id A]
  refine List.map_congr_left fun t ht => ?_
  have := List.all_eq_true.mp h t ht
  exact zk0 (beq_iff_eq.mp this)
theorem C_literal (hst : l.stackTraces = false) {n md : Nat} {A : List Th} {place : Int32} (h : COk E n md A s f) (hQ : ∀ o s' f', cop E n md (zbuild A) place s f o s' f' → Q o s' f') : EvC l E w (d + 4) MX3_literal [.ref (w.1 3), .int (nI A.length), .int place] s f Q := by
  obtain ⟨⟨h26, h83, h40, hmd⟩, ⟨hr, hz, hcb⟩, hZ, hV⟩ := h
  refine EvC.pfrz ?_
  have hsub : nI (n + A.length) - nI A.length = nI n := by rw [pk_sub (by omega), Nat.add_sub_cancel]
  have main : ExC l E w (d + 4) MX3_literal 21 [some (.ref (w.1 3)), some (.int (nI A.length)), some (.int place), some (.int (bI ((A.take 0).all (fun t => zk t == 0)))), some (.int (bI (decide (0 < A.length) && (A.take 0).all (fun t => zk t == 1)))), some (.int (nI (n + 0)))] [] s f (fun o s1 f2 => Q o s1 (frz f2)) := by
    refine dn (P := fun k => ExC l E w (d + 4) MX3_literal 21 [some (.ref (w.1 3)), some (.int (nI A.length)), some (.int place), some (.int (bI ((A.take k).all (fun t => zk t == 0)))), some (.int (bI (decide (0 < A.length) && (A.take k).all (fun t => zk t == 1)))), some (.int (nI (n + k)))] [] s f (fun o s1 f2 => Q o s1 (frz f2))) A.length ?_ (fun k hk ih => ?_)
    · rw [List.take_length]
      refine vX3_literal_21 ?_
      rw [h26, hsub]
      refine pk_le (n + A.length) (n + A.length) (fun _ => ?_) (fun c => by omega) rfl rfl
      unfold zbuild at hQ
      cases hI : A.all (fun t => zk t == 0) with
      | true =>
        rw [if_pos hI] at hQ
        refine br_f (by decide) ?_
        have hA := all_map_zv hI
        have hlen : (A.map zv).length = A.length := List.length_map ..
        refine C_mrow hst (V := A.map zv) hlen (by omega) (fun i hi => ?_) (by omega) hcb (Nat.le_trans hz hcb) (fun c p f' q1 q2 => ⟨p, rfl, ?_⟩) (fun c => ?_)
        · have hv := hV i hi
          have he : A.getD i (zI 0) = zI ((A.map zv).getD i 0) := by
            conv => lhs; rw [hA]
            exact getD_map zI (A.map zv) 0 (zI 0) (by rw [hlen]; exact hi)
          rw [he] at hv
          exact hv.2
        · have hw : ZW (zR (A.map zv)) := by show (A.map zv).length ≤ 64; omega
          refine C_fin hst (r := zmk (zof 1 A)) (t := zR (A.map zv)) (zmk_ok hw) (cfr.rf JC n s) q2.2.2.1 q1 (by show ¬ 1 = 0; decide) hw h26 h83 h40 hmd (by show _ ≤ 2 * (4 + (A.map zv).length); omega) hQ
        · refine hQ _ _ _ (cop.tr (k := 2) ?_ rfl h40 (by omega))
          show (if decide (64 < (A.map zv).length) = true then _ else _) = _
          rw [decide_eq_true (by omega)]; rfl
      | false =>
        have hI' : ¬ A.all (fun t => zk t == 0) = true := by rw [hI]; decide
        rw [if_neg hI'] at hQ
        refine br_t rfl ?_
        have h0 : 0 < A.length := by
          cases A with
          | nil => cases hI
          | cons x r => exact Nat.succ_pos _
        rw [decide_eq_true h0, Bool.true_and]
        cases hR : A.all (fun t => zk t == 1) with
        | true =>
          rw [if_pos hR] at hQ
          refine br_f (by decide) ?_
          have hlen : (A.map zr).length = A.length := List.length_map ..
          have hrow : ∀ i, i < A.length → A.getD i (zI 0) = zR ((A.map zr).getD i []) := fun i hi => by
            have hm := getD_mem (zI 0) hi
            have := beq_iff_eq.mp (List.all_eq_true.mp hR _ hm)
            rw [getD_map zr A (zI 0) [] hi]
            exact zk1 this
          have h64 : ∀ r ∈ A.map zr, r.length ≤ 64 := fun r hr => by
            obtain ⟨t, ht, rfl⟩ := List.mem_map.mp hr
            have hw := hZ t ht
            rw [zk1 (beq_iff_eq.mp (List.all_eq_true.mp hR t ht))] at hw
            exact hw
          refine C_mtab hst (R := A.map zr) hlen (by omega) (fun i hi => ?_) h64 (by omega) hcb (Nat.le_trans hz hcb) (fun c p f' q1 q2 => ⟨p, rfl, ?_⟩) (fun c f' q2 => ?_)
          · have hv := hV i hi
            rw [hrow i hi] at hv
            exact hv
          · rw [zgtT] at c
            simp only [Bool.or_eq_false_iff, decide_eq_false_iff_not] at c
            have hw : ZW (zT (A.map zr)) := ⟨by omega, by omega, h64⟩
            refine C_fin hst (r := zmk (zof 2 A)) (t := zT (A.map zr)) (zmk_ok hw) (cfr.rf JC n s) q2.2.2.1 q1 (by show ¬ 2 = 0; decide) hw h26 h83 h40 hmd (by show _ ≤ 2 * (4 + 4 * (A.map zr).length + zis (A.map zr)); omega) hQ
          · refine hQ _ _ _ (cop.tr (k := 2) ?_ rfl h40 (by have := q2.2.2.1; omega))
            show (if zgt (zT (A.map zr)) = true then _ else _) = _
            rw [c]; rfl
        | false =>
          have hR' : ¬ A.all (fun t => zk t == 1) = true := by rw [hR]; decide
          rw [if_neg hR'] at hQ
          refine br_t rfl ?_
          exact C_finW hst rfl rfl (cfr.rf JC n s) h40 (by omega) hQ
    · have e1 := all_takeC A (fun t => zk t == 0) k hk
      have e2 := all_takeC A (fun t => zk t == 1) k hk
      have hv := hV k hk
      have hrow := hv.isRow 1 (by decide) (by decide)
      rw [e1, e2] at ih
      have h0 : 0 < A.length := by omega
      rw [decide_eq_true h0, Bool.true_and] at ih ⊢
      rw [← Nat.add_assoc, ← nI_1] at ih
      refine vX3_literal_21 ?_
      rw [h26]
      refine pk_le (n + A.length) (n + k) (fun c => by omega) (fun _ => ?_) rfl rfl
      rw [nI_clamp (by omega)]
      have hrw : ∀ (b : Bool) {X : Bool → Prop}, X (b && (zk (A.getD k (zI 0)) == 1)) → b = true → (isT f (s.2.2.2 25 (n + k)) ∧ ((∀ a17 : Nat, s.2.2.2 25 (n + k) = .ref a17 → tg f a17 = some (.inl 29) → X true) ∧ ((∀ z : Nat, s.2.2.2 25 (n + k) = .ref z → ¬ tg f z = some (.inl 29)) → X false))) := by
        intro b X hX hb
        subst hb
        refine ⟨hv.isT, ?_⟩
        by_cases c : zk (A.getD k (zI 0)) = 1
        · obtain ⟨a, ea, ta⟩ := hrow.1 c
          refine is_y (X := True) ea ta ?_
          rw [c] at hX; exact hX
        · refine is_n (hrow.2 c) ?_
          rw [beq_false_of_ne c] at hX; exact hX
      cases hI : (A.take k).all (fun t => zk t == 0) with
      | false =>
        rw [hI] at ih
        refine br_t rfl ?_
        cases hR : (A.take k).all (fun t => zk t == 1) with
        | false =>
          rw [hR] at ih
          exact br_t rfl ih
        | true =>
          rw [hR] at ih
          exact br_f (by decide) ⟨inB_n (by omega), _, rfl, hv.isR, hrw true (X := fun b => ExC l E w (d + 4) MX3_literal 21 [some (.ref (w.1 3)), some (.int (nI A.length)), some (.int place), some (.int 0), some (.int (bI b)), some (.int (nI (n + k) + 1))] [] s f (fun o s1 f2 => Q o s1 (frz f2))) ih rfl⟩
      | true =>
        rw [hI] at ih
        refine br_f (by decide) (C_isInt hst (by omega) hv ⟨_, rfl, ?_⟩)
        cases hR : (A.take k).all (fun t => zk t == 1) with
        | false =>
          rw [hR] at ih
          cases hk0 : (zk (A.getD k (zI 0)) == 0) with
          | false => rw [hk0] at ih; exact br_t rfl (br_t rfl ih)
          | true => rw [hk0] at ih; exact br_f (by decide) (br_t rfl ih)
        | true =>
          rw [hR] at ih
          cases hk0 : (zk (A.getD k (zI 0)) == 0) with
          | false =>
            rw [hk0] at ih
            exact br_t rfl (br_f (by decide) ⟨inB_n (by omega), _, rfl, hv.isR, hrw true (X := fun b => ExC l E w (d + 4) MX3_literal 21 [some (.ref (w.1 3)), some (.int (nI A.length)), some (.int place), some (.int 0), some (.int (bI b)), some (.int (nI (n + k) + 1))] [] s f (fun o s1 f2 => Q o s1 (frz f2))) ih rfl⟩)
          | true =>
            rw [hk0] at ih
            exact br_f (by decide) (br_f (by decide) ⟨inB_n (by omega), _, rfl, hv.isR, hrw true (X := fun b => ExC l E w (d + 4) MX3_literal 21 [some (.ref (w.1 3)), some (.int (nI A.length)), some (.int place), some (.int 1), some (.int (bI b)), some (.int (nI (n + k) + 1))] [] s f (fun o s1 f2 => Q o s1 (frz f2))) ih rfl⟩)
  refine eX3_literal hst ?_
  rw [h26, hsub]
  have e0 : (A.take 0).all (fun t => zk t == 0) = true := by rw [List.take_zero]; rfl
  have e1 : (A.take 0).all (fun t => zk t == 1) = true := by rw [List.take_zero]; rfl
  rw [e0, e1, Bool.and_true, Nat.add_zero] at main
  refine pk_le A.length 0 (fun c y1 ey => ?_) (fun c y2 ey => ?_) rfl rfl
  · subst ey
    rw [decide_eq_false (by omega)] at main
    exact main
  · subst ey
    rw [decide_eq_true c] at main
    exact main
end CL
