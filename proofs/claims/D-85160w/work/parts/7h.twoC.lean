/-! THE COMPONENT: signs between things -/
theorem zlk_none1 (q : Option (List Int32)) : zlk none q = true := by cases q <;> rfl
theorem zlk_none2 (p : Option (List Int32)) : zlk p none = true := by cases p <;> rfl
theorem any_no {α : Type} {L : List α} {p : α → Bool} (h : ∀ x ∈ L, p x = false) : L.any p = false := by
  rw [Bool.eq_false_iff]
  intro z
  obtain ⟨x, hx, hp⟩ := List.any_eq_true.mp z
  rw [h x hx] at hp
  cases hp
theorem zun_i1 (v : Int32) (y : Lf) : zun (.inl v) y = false := by
  unfold zun
  rw [any_no (fun k _ => by show (!zlk none _) = false; rw [zlk_none1]; rfl)]
  rfl
theorem zun_i2 (x : Lf) (v : Int32) : zun x (.inl v) = false := by
  unfold zun
  rw [any_no (fun k _ => by show (!zlk _ none) = false; rw [zlk_none2]; rfl)]
  cases x with
  | inl _ => rfl
  | inr x => cases x <;> rfl
theorem any_range_succ (p : Nat → Bool) (k : Nat) : (List.range (k + 1)).any p = ((List.range k).any p || p k) := by
  rw [List.range_succ, List.any_append]
  simp
section CTw2
variable {l : Launch} {E : EN} {w : CO} {d : Nat} {s : CS} {f : RH} {Q : KO → CS → RH → Prop}
theorem C_areAlike (hst : l.stackTraces = false) {x y : Lf} {vx vy : Value} {nx ny : Int32} (hx : rcV E f nx vx (.leaf x)) (hy : rcV E f ny vy (.leaf y)) (wx : ZW (.leaf x)) (wy : ZW (.leaf y)) (hcb : f.2.2.2 ≤ f.1) (hQ : Q (.inl (some (.int (bI (!zun x y))))) s f) : EvC l E w (d + 1) MX5_areAlike [vx, vy] s f Q := by
  /- rows side by side -/
  have loop : ∀ (px py N : Nat), vx = .ref px → vy = .ref py → N ≤ 20 → (∀ k, k < N → ∃ a, zrw x k = some a ∧ a.length ≤ 64) → (∀ k, k < N → ∃ a, zrw y k = some a ∧ a.length ≤ 64) → (∀ a, x = .inr (.inr a) → N ≤ a.length ∧ a.length < 2 ^ 31) → (∀ a, y = .inr (.inr a) → N ≤ a.length ∧ a.length < 2 ^ 31) → (bI (!(List.range N).any (fun k => !zlk (zrw x k) (zrw y k))) = bI (!zun x y)) → ExC l E w (d + 1) MX5_areAlike 92 [some (.ref px), some (.ref py), some (.int (nI N)), some (.int 1), some (.int 0)] [] s f Q := by
    intro px py N ex ey hN hax hay htx hty hend
    subst ex ey
    refine dn (P := fun k => ExC l E w (d + 1) MX5_areAlike 92 [some (.ref px), some (.ref py), some (.int (nI N)), some (.int (bI (!(List.range k).any (fun k => !zlk (zrw x k) (zrw y k))))), some (.int (nI k))] [] s f Q) N ?_ (fun k hk ih => ?_)
    · refine vX5_areAlike_92 (pk_le N N (fun _ => ⟨?_, ?_⟩) (fun c => by omega) rfl rfl)
      · cases (!(List.range N).any (fun k => !zlk (zrw x k) (zrw y k))) <;> rfl
      · rw [hend]; exact hQ
    · rw [any_range_succ] at ih
      refine vX5_areAlike_92 (pk_le N k (fun c => by omega) (fun _ => ?_) rfl rfl)
      rw [nI_1]
      cases hfl : (List.range k).any (fun k => !zlk (zrw x k) (zrw y k)) with
      | true =>
        rw [hfl] at ih
        exact br_t rfl ih
      | false =>
        rw [hfl] at ih
        refine br_f (by decide) ?_
        obtain ⟨a, ha1, ha2⟩ := hax k hk
        obtain ⟨c, hc1, hc2⟩ := hay k hk
        refine C_rowOf hst hx (fun t e => by have := htx t e; omega) (fun v hv => ⟨v, rfl, rcO.isR hv, ?_⟩)
        rw [ha1] at hv
        obtain ⟨p, p1, p2, p3, p4, p5⟩ := rcI.vw hv
        refine ⟨p, p1, 0, p3, ?_⟩
        refine C_rowOf hst hy (fun t e => by have := hty t e; omega) (fun u hu => ⟨u, rfl, rcO.isR hu, ?_⟩)
        rw [hc1] at hu
        obtain ⟨q, q1, q2, q3, q4, q5⟩ := rcI.vw hu
        refine ⟨q, q1, 0, q3, ?_⟩
        rw [p4, q4]
        rw [ha1, hc1] at ih
        have hz : zlk (some a) (some c) = (a.length == c.length) := rfl
        rw [hz] at ih
        refine bn_eq a.length c.length (fun e => ?_) (fun e => ?_)
        · rw [beq_false_of_ne e] at ih
          exact ih
        · rw [beq_iff_eq.mpr e] at ih
          exact ih
  refine eX5_areAlike hx.isR hy.isR hst ?_
  have sz : ∀ {t : Th} {p : Nat} {v : Value} {nn : Int32} {K : Int32 → CS → RH → Prop} {B : Nat → CS → RH → Prop}, rcV E f nn v t → v = .ref p → ¬ zk t = 0 → K (nI (zn t)) s f → ∃ P14 : KO → CS → RH → Prop, (∀ o s5 f6, P14 o s5 f6 → KP o (fun r => ∃ v7 : Int32, r = some (.int v7) ∧ K v7 s5 f6) (fun k => B k s5 f6)) ∧ ∃ k13 : Nat, oc f p k13 ∧ ((k13 = 29 ∧ EvC l E w d MX32_size [.ref p] s f P14) ∨ (k13 = 30 ∧ EvC l E w d MX33_size [.ref p] s f P14) ∨ (k13 = 31 ∧ EvC l E w d MX34_size [.ref p] s f P14) ∨ (k13 = 32 ∧ EvC l E w d MX35_size [.ref p] s f P14)) := by
    intro t p v nn K B h1 h2 h3 h4
    have h5 := (rcV_thing h3).mp h1
    rw [h2] at h5
    refine ⟨fun o s1 f2 => o = .inl (some (.int (nI (zn t)))) ∧ s1 = s ∧ f2 = f, ?_, C_size hst h5 ⟨rfl, rfl, rfl⟩⟩
    rintro o s1 f2 ⟨rfl, rfl, rfl⟩
    exact ⟨_, rfl, h4⟩
  match x, hx, wx, loop, hQ with
  | .inl v, hx, wx, _, hQ =>
    rw [zun_i1] at hQ
    exact ⟨fun _ => hQ, fun a e => by rw [hx.1] at e; cases e⟩
  | .inr (.inl a), hx, wx, loop, hQ =>
    obtain ⟨p, p2, p3⟩ := hx.isRow (t := zR a) 1 (by decide) (by decide) |>.1 rfl
    have hxT := hx.isT
    rw [p2] at hxT
    refine ⟨fun e => (by rw [p2] at e; cases e), fun a1 e1 => ?_⟩
    rw [p2] at e1
    cases e1
    match y, hy, wy, loop, hQ with
    | .inl v, hy, wy, _, hQ =>
      rw [zun_i2] at hQ
      exact ⟨fun _ => hQ, fun a e => by rw [hy.1] at e; cases e⟩
    | .inr (.inl c), hy, wy, _, hQ =>
      obtain ⟨q, q2, q3⟩ := hy.isRow (t := zR c) 1 (by decide) (by decide) |>.1 rfl
      have hyT := hy.isT
      rw [q2] at hyT
      refine ⟨fun e => (by rw [q2] at e; cases e), fun a2 e2 => ?_⟩
      rw [q2] at e2
      cases e2
      refine ⟨hxT, br_t p3 ⟨hyT, br_t q3 (sz (t := zR a) hx p2 (by show ¬ 1 = 0; decide) (sz (t := zR c) hy q2 (by show ¬ 1 = 0; decide) ?_))⟩⟩
      have wx' : a.length ≤ 64 := wx
      have wy' : c.length ≤ 64 := wy
      have hz : zun (.inr (.inl a)) (.inr (.inl c)) = !(a.length == c.length) := by
        show (false || ((!(a.length == c.length)) || false)) = _
        rw [Bool.or_false, Bool.false_or]
      rw [hz] at hQ
      refine bn_eq a.length c.length (fun e => ?_) (fun e => ?_)
      · rw [beq_false_of_ne e] at hQ; exact hQ
      · rw [beq_iff_eq.mpr e] at hQ; exact hQ
    | .inr (.inr c), hy, wy, loop, hQ =>
      obtain ⟨q, q2, q3⟩ := hy.isRow (t := zT c) 2 (by decide) (by decide) |>.1 rfl
      have hyT := hy.isT
      rw [q2] at hyT
      refine ⟨fun e => (by rw [q2] at e; cases e), fun a2 e2 => ?_⟩
      rw [q2] at e2
      cases e2
      obtain ⟨wy1, wy2, wy3⟩ := wy
      refine ⟨hxT, br_t p3 ⟨hyT, br_f (by rw [q3]; intro z; cases z) ⟨hxT, br_f (by rw [p3]; intro z; cases z) ⟨hxT, br_f (by rw [p3]; intro z; cases z) (sz (t := zT c) hy q2 (by show ¬ 2 = 0; decide) ?_)⟩⟩⟩⟩
      exact loop p q c.length p2 q2 wy1 (fun k hk => ⟨a, rfl, wx⟩) (fun k hk => ⟨_, rfl, wy3 _ (getD_mem [] hk)⟩) (fun t e => by cases e) (fun t e => by cases e; omega) rfl
  | .inr (.inr a), hx, wx, loop, hQ =>
    obtain ⟨p, p2, p3⟩ := hx.isRow (t := zT a) 2 (by decide) (by decide) |>.1 rfl
    have hxT := hx.isT
    rw [p2] at hxT
    obtain ⟨wx1, wx2, wx3⟩ := wx
    refine ⟨fun e => (by rw [p2] at e; cases e), fun a1 e1 => ?_⟩
    rw [p2] at e1
    cases e1
    match y, hy, wy, loop, hQ with
    | .inl v, hy, wy, _, hQ =>
      rw [zun_i2] at hQ
      exact ⟨fun _ => hQ, fun a e => by rw [hy.1] at e; cases e⟩
    | .inr (.inl c), hy, wy, loop, hQ =>
      obtain ⟨q, q2, q3⟩ := hy.isRow (t := zR c) 1 (by decide) (by decide) |>.1 rfl
      have hyT := hy.isT
      rw [q2] at hyT
      refine ⟨fun e => (by rw [q2] at e; cases e), fun a2 e2 => ?_⟩
      rw [q2] at e2
      cases e2
      refine ⟨hxT, br_f (by rw [p3]; intro z; cases z) ⟨hxT, br_t p3 ⟨hyT, br_f (by rw [q3]; intro z; cases z) ⟨hxT, br_t p3 (sz (t := zT a) hx p2 (by show ¬ 2 = 0; decide) ?_)⟩⟩⟩⟩
      exact loop p q a.length p2 q2 wx1 (fun k hk => ⟨_, rfl, wx3 _ (getD_mem [] hk)⟩) (fun k hk => ⟨c, rfl, wy⟩) (fun t e => by cases e; omega) (fun t e => by cases e) rfl
    | .inr (.inr c), hy, wy, loop, hQ =>
      obtain ⟨q, q2, q3⟩ := hy.isRow (t := zT c) 2 (by decide) (by decide) |>.1 rfl
      have hyT := hy.isT
      rw [q2] at hyT
      obtain ⟨wy1, wy2, wy3⟩ := wy
      refine ⟨fun e => (by rw [q2] at e; cases e), fun a2 e2 => ?_⟩
      rw [q2] at e2
      cases e2
      refine ⟨hxT, br_f (by rw [p3]; intro z; cases z) ⟨hxT, br_t p3 ⟨hyT, br_t q3 (sz (t := zT a) hx p2 (by show ¬ 2 = 0; decide) (sz (t := zT c) hy q2 (by show ¬ 2 = 0; decide) ?_))⟩⟩⟩
      refine pk_eq a.length c.length (fun e => ⟨hxT, br_t p3 (sz (t := zT a) hx p2 (by show ¬ 2 = 0; decide) ?_)⟩) (fun e => ?_) rfl rfl
      · refine loop p q a.length p2 q2 wx1 (fun k hk => ⟨_, rfl, wx3 _ (getD_mem [] hk)⟩) (fun k hk => ⟨_, rfl, wy3 _ (getD_mem [] (by omega))⟩) (fun t e => by cases e; omega) (fun t e => by cases e; omega) ?_
        have hz : zun (.inr (.inr a)) (.inr (.inr c)) = (List.range a.length).any (fun k => !zlk (zrw (.inr (.inr a)) k) (zrw (.inr (.inr c)) k)) := by
          have h0 : (a.length != c.length) = false := by rw [e]; exact bne_self_eq_false _
          show ((a.length != c.length) || (List.range a.length).any _) = _
          rw [h0]; rfl
        rw [hz]
      · have hz : zun (.inr (.inr a)) (.inr (.inr c)) = true := by
          show ((a.length != c.length) || _) = true
          rw [bne_iff_ne.mpr e]; rfl
        rw [hz] at hQ
        exact hQ
theorem zr2_irr {g v w v' w' : Int32} {p q : Option (List Int32)} (h1 : p = none → v = v') (h2 : q = none → w = w') : zr2 g v w p q = zr2 g v' w' p q := by
  cases p with
  | none =>
    rw [h1 rfl]
    cases q with
    | none => rw [h2 rfl]
    | some b => rfl
  | some a =>
    cases q with
    | none => rw [h2 rfl]; rfl
    | some b => rfl
theorem zr2_len {g v w : Int32} {p q : Option (List Int32)} {L : List Int32} {n : Nat} (hp : ∀ l, p = some l → l.length = n) (hq : ∀ l, q = some l → l.length = n) (hne : p ≠ none ∨ q ≠ none) (h : zr2 g v w p q = some L) : L.length = n := by
  rw [zr2_eqC hp hq hne] at h
  split at h
  · cases h
  · cases h
    rw [List.length_zipWith, optlen hp, optlen hq, Nat.min_self]
theorem ztwo_p {g : Int32} {x y : Th} (h : zk x = 3 ∨ zk y = 3) : ztwo g x y = .inl 3 := by
  cases x with
  | leaf a =>
    cases y with
    | leaf b =>
      rcases h with h | h
      · rcases a with _ | _ | _ <;> cases h
      · rcases b with _ | _ | _ <;> cases h
    | branch _ _ _ => rfl
  | branch _ _ _ => cases y <;> rfl
theorem zun_no {x y : Lf} (h : zun x y = false) : (∀ a b, x = .inr (.inr a) → y = .inr (.inr b) → a.length = b.length) ∧ ∀ k, k < zlen2 x y → zlk (zrw x k) (zrw y k) = true := by
  unfold zun at h
  rw [Bool.or_eq_false_iff] at h
  refine ⟨fun a b ea eb => ?_, fun k hk => ?_⟩
  · subst ea eb
    have h1 : (a.length != b.length) = false := h.1
    exact Decidable.of_not_not fun z => by rw [bne_iff_ne.mpr z] at h1; cases h1
  · have := h.2
    rw [Bool.eq_false_iff] at this
    cases hz : zlk (zrw x k) (zrw y k) with
    | true => rfl
    | false =>
      refine absurd (List.any_eq_true.mpr ⟨k, List.mem_range.mpr hk, ?_⟩) this
      rw [hz]; rfl
theorem ztwoL_un {g : Int32} {a c : Lf} (h : zun a c = true) : ztwoL g a c = .inl 4 := by
  match a, c, h with
  | .inl v, .inl u, h => rw [zun_i1] at h; cases h
  | .inl v, .inr y, h => exact if_pos h
  | .inr x, y, h => exact if_pos h
theorem ztwoL_t {g : Int32} {a c : Lf} (h : zun a c = false) (ht : zisT a = true ∨ zisT c = true) : ztwoL g a c = (match zallS ((List.range (zlen2 a c)).map (fun k => zr2 g (zrv a) (zrv c) (zrw a k) (zrw c k))) with
      | none => .inl 6
      | some a => .inr (zT a)) := by
  match a, c, h, ht with
  | .inl v, .inl u, h, ht => rcases ht with ht | ht <;> cases ht
  | .inl v, .inr y, h, ht => exact (if_neg (by rw [h]; decide)).trans (if_pos ht)
  | .inr x, y, h, ht => exact (if_neg (by rw [h]; decide)).trans (if_pos ht)
theorem ztwoL_r {g : Int32} {a c : Lf} (h : zun a c = false) (hn : (∀ v, a ≠ .inl v) ∨ (∀ v, c ≠ .inl v)) (ha : zisT a = false) (hc : zisT c = false) : ztwoL g a c = (match zr2 g (zrv a) (zrv c) (zrw a 0) (zrw c 0) with
      | none => .inl 6
      | some a => .inr (zR a)) := by
  have hno : ¬ (zisT a = true ∨ zisT c = true) := by rw [ha, hc]; decide
  match a, c, h, hn, hno with
  | .inl v, .inl u, h, hn, _ => rcases hn with hn | hn <;> exact absurd rfl (hn _)
  | .inl v, .inr y, h, _, hno => exact (if_neg (by rw [h]; decide)).trans (if_neg hno)
  | .inr x, y, h, _, hno => exact (if_neg (by rw [h]; decide)).trans (if_neg hno)
theorem C_two (hst : l.stackTraces = false) {n md : Nat} {x y : Th} {g place : Int32} (hs : g ∈ zSg) (h : COk E n md [x, y] s f) (hQ : ∀ o s' f', cop E n md (ztwo g x y) place s f o s' f' → Q o s' f') : EvC l E w (d + 3) MX5_two [.ref (w.1 5), .int g, .int place] s f Q := by
  obtain ⟨hx, hy, wx, wy, h26, h83⟩ := h.v2
  obtain ⟨⟨-, -, h40, hmd⟩, ⟨hr, hz, hcb⟩, -, -⟩ := h
  have hz1 : ez E ≤ f.1 := Nat.le_trans hz hcb
  refine EvC.pfrz (eX5_two hst ?_)
  rw [h26, nI_s2, show nI (n + 2) - 1 = nI (n + 1) from nI_pred (n + 1), nI_clamp (n := n) (by omega), nI_clamp (n := n + 1) (by omega)]
  have x3 := hx.isRow 3 (by decide) (by decide)
  have y3 := hy.isRow 3 (by decide) (by decide)
  refine ⟨inB_n (by omega), _, rfl, hx.isR, inB_n (by omega), _, rfl, hy.isR, inB_n (by omega), fun nx enx => ⟨inB_n (by omega), fun ny eny => ⟨hx.isT, ?_⟩⟩⟩
  by_cases cx : zk x = 3
  · obtain ⟨p, ep, tp⟩ := x3.1 cx
    exact is_y (X := True) ep tp (C_finW hst (k := 3) (ztwo_p (Or.inl cx)) rfl (cfr.rf JC n s) h40 (by omega) hQ)
  refine is_n (x3.2 cx) ⟨hy.isT, ?_⟩
  by_cases cy : zk y = 3
  · obtain ⟨p, ep, tp⟩ := y3.1 cy
    exact is_y (X := True) ep tp (C_finW hst (k := 3) (ztwo_p (Or.inr cy)) rfl (cfr.rf JC n s) h40 (by omega) hQ)
  refine is_n (y3.2 cy) ?_
  have lf : ∀ t : Th, ¬ zk t = 3 → ∃ a, t = .leaf a := fun t ht => by
    cases t with
    | leaf a => exact ⟨a, rfl⟩
    | branch _ _ _ => exact absurd rfl ht
  obtain ⟨a, rfl⟩ := lf x cx
  obtain ⟨c, rfl⟩ := lf y cy
  rw [← enx] at hx
  rw [← eny] at hy
  refine C_areAlike hst hx hy wx wy hcb ⟨_, rfl, ?_⟩
  have hzt : ztwo g (.leaf a) (.leaf c) = ztwoL g a c := rfl
  rw [hzt] at hQ
  /- what comes of an exception -/
  have exc : ∀ (r : Nat ⊕ Th), r = .inl 6 → (∀ o s' f', cop E n md r place s f o s' f' → Q o s' f') → ∀ f', f'.2.1 ≤ f.2.1 + 800 → ∀ a26 : Nat, EvC l E w (d + 2) MX3_wrong [.ref (w.1 3), .int 6, .int place] s f' (fun o s1 f2 => KP o (fun r => r = some (.ref (w.1 9)) ∧ Q (.inr 9) s1 (frz f2)) (fun k => Q (.inr k) s1 (frz f2))) := fun r hr hQ f' hb _ => C_finW hst (k := 6) hr rfl (cfr.rf JC n s) h40 hb hQ
  have fin : ∀ {t : Th} {p cc : Nat} {f' : RH} {r : Nat ⊕ Th}, r = .inr t → (∀ o s' f', cop E n md r place s f o s' f' → Q o s' f') → rcT f'.2.2.1 (ez E) f'.1 true t (fun _ => .ref p) → f'.2.1 ≤ f.2.1 + cc → cc ≤ 2 * zm t → ¬ zk t = 0 → ZW t → EvC l E w (d + 2) MX3_give_2 [.ref (w.1 3), .ref p, .int 2, .int place] s f' (fun o s34 f35 => KP o (fun r => r = none ∧ Q (.inl none) s34 (frz f35)) (fun k => (k = 36 ∧ ∀ a36 : Nat, EvC l E w (d + 2) MX3_wrong [.ref (w.1 3), .int 6, .int place] s34 f35 (fun o s1 f2 => KP o (fun r => r = some (.ref (w.1 9)) ∧ Q (.inr 9) s1 (frz f2)) (fun k => Q (.inr k) s1 (frz f2)))) ∨ (k = 9 ∧ Q (.inr 9) s34 (frz f35)))) := by
    intro t p cc f' r hr hQ h1 h2 h3 h4 h5
    refine C_finG hst (parts := 2) (f0 := f) hr (cfr.rf JC n s) h2 h1 h4 h5 h26 (by omega) h40 hmd h3 ?_
    rintro o s' (rfl | rfl) q
    · exact Or.inr ⟨rfl, hQ _ _ _ q⟩
    · exact ⟨rfl, hQ _ _ _ q⟩
  have alik : ∀ {A B : Prop}, (zun a c = true → B) → (zun a c = false → A) → (¬ bI (!zun a c) = 0 → A) ∧ (bI (!zun a c) = 0 → B) := by
    intro A B hB hA
    cases hzu : zun a c with
    | true => exact ⟨fun z => absurd rfl z, fun _ => hB hzu⟩
    | false => exact ⟨fun _ => hA hzu, fun z => absurd z (by decide)⟩
  have key : ∀ {vx vy : Value} {X : List Int32}, rcV E f nx vx (.leaf a) → rcV E f ny vy (.leaf c) → zun a c = false → zisT a = false → zisT c = false → (a = .inr (.inl X) ∨ c = .inr (.inl X)) → X.length ≤ 64 → (∀ o s' f', cop E n md (match zr2 g (zrv a) (zrv c) (zrw a 0) (zrw c 0) with | none => .inl 6 | some a => .inr (zR a)) place s f o s' f' → Q o s' f') → (rmF E f 1 1 ∧ ∀ (a42 : Nat) (f43 : RH), a42 = f.1 → f43 = fnew f 29 → EvC l E w (d + 2) MX5_rowOf [vx, .int 0] s f43 (fun o s44 f45 => KP o (fun r => ∃ v46 : Value, r = some v46 ∧ isR v46 = true ∧ EvC l E w (d + 2) MX5_rowOf [vy, .int 0] s44 f45 (fun o s47 f48 => KP o (fun r => ∃ v49 : Value, r = some v49 ∧ isR v49 = true ∧ EvC l E w (d + 2) MX5_rows [.int g, v46, .int nx, v49, .int ny] s47 f48 (fun o s50 f51 => KP o (fun r => ∃ a52 : Nat, r = some (.ref a52) ∧ EvC l E w (d + 2) MX32_init [.ref a42, .ref a52] s50 f51 (fun o s53 f54 => KP o (fun r => r = none ∧ EvC l E w (d + 2) MX3_give_2 [.ref (w.1 3), .ref a42, .int 2, .int place] s53 f54 (fun o s34 f35 => KP o (fun r => r = none ∧ Q (.inl none) s34 (frz f35)) (fun k => (k = 36 ∧ ∀ a36 : Nat, EvC l E w (d + 2) MX3_wrong [.ref (w.1 3), .int 6, .int place] s34 f35 (fun o s1 f2 => KP o (fun r => r = some (.ref (w.1 9)) ∧ Q (.inr 9) s1 (frz f2)) (fun k => Q (.inr k) s1 (frz f2)))) ∨ (k = 9 ∧ Q (.inr 9) s34 (frz f35))))) (fun k => (k = 36 ∧ ∀ a60 : Nat, EvC l E w (d + 2) MX3_wrong [.ref (w.1 3), .int 6, .int place] s53 f54 (fun o s1 f2 => KP o (fun r => r = some (.ref (w.1 9)) ∧ Q (.inr 9) s1 (frz f2)) (fun k => Q (.inr k) s1 (frz f2)))) ∨ (k = 9 ∧ Q (.inr 9) s53 (frz f54))))) (fun k => (k = 36 ∧ ∀ a63 : Nat, EvC l E w (d + 2) MX3_wrong [.ref (w.1 3), .int 6, .int place] s50 f51 (fun o s1 f2 => KP o (fun r => r = some (.ref (w.1 9)) ∧ Q (.inr 9) s1 (frz f2)) (fun k => Q (.inr k) s1 (frz f2)))) ∨ (k = 9 ∧ Q (.inr 9) s50 (frz f51))))) (fun k => (k = 36 ∧ ∀ a66 : Nat, EvC l E w (d + 2) MX3_wrong [.ref (w.1 3), .int 6, .int place] s47 f48 (fun o s1 f2 => KP o (fun r => r = some (.ref (w.1 9)) ∧ Q (.inr 9) s1 (frz f2)) (fun k => Q (.inr k) s1 (frz f2)))) ∨ (k = 9 ∧ Q (.inr 9) s47 (frz f48))))) (fun k => (k = 36 ∧ ∀ a69 : Nat, EvC l E w (d + 2) MX3_wrong [.ref (w.1 3), .int 6, .int place] s44 f45 (fun o s1 f2 => KP o (fun r => r = some (.ref (w.1 9)) ∧ Q (.inr 9) s1 (frz f2)) (fun k => Q (.inr k) s1 (frz f2)))) ∨ (k = 9 ∧ Q (.inr 9) s44 (frz f45))))) := by
    intro vx vy X hx hy hzu hta htc hX hX64 hQ
    have gw := fnew_gw f 29
    have hbud := gw.2.2.1
    rw [CZ29] at hbud
    have hx' := hx.gw gw hcb
    have hy' := hy.gw gw hcb
    have hcb2 : (fnew f 29).2.2.2 ≤ (fnew f 29).1 := Nat.le_succ_of_le hcb
    refine ⟨(by show f.2.1 + 1 + 1 ≤ BM; omega), fun a42 f43 e1 e2 => ?_⟩
    subst e1 e2
    refine C_rowOf hst (k := 0) hx' (fun t e => by rw [e] at hta; cases hta) (fun v46 h46 => ⟨v46, rfl, rcO.isR h46, ?_⟩)
    refine C_rowOf hst (k := 0) hy' (fun t e => by rw [e] at htc; cases htc) (fun v49 h49 => ⟨v49, rfl, rcO.isR h49, ?_⟩)
    have up : ∀ {v : Value} {p : Option (List Int32)}, rcO (fnew f 29) (ez E) (fnew f 29).2.2.2 v p → rcO (fnew f 29) (ez E) (fnew f 29).1 v p := by
      intro v p h
      cases p with
      | none => exact h
      | some l => exact rcI_up hcb2 h
    have hlk := (zun_no hzu).2 0 (by
      rcases hX with h | h <;> subst h
      · cases c with
        | inl _ => exact Nat.succ_pos _
        | inr c => cases c with
          | inl _ => exact Nat.succ_pos _
          | inr _ => cases htc
      · cases a with
        | inl _ => exact Nat.succ_pos _
        | inr a => cases a with
          | inl _ => exact Nat.succ_pos _
          | inr _ => cases hta)
    have hp : ∀ l, zrw a 0 = some l → l.length = X.length := fun l e => by
      rcases hX with h | h
      · rw [h] at e; cases e; rfl
      · rw [h, e] at hlk
        exact beq_iff_eq.mp hlk
    have hq : ∀ l, zrw c 0 = some l → l.length = X.length := fun l e => by
      rcases hX with h | h
      · rw [h, e] at hlk
        exact (beq_iff_eq.mp hlk).symm
      · rw [h] at e; cases e; rfl
    have hne : zrw a 0 ≠ none ∨ zrw c 0 ≠ none := by
      rcases hX with h | h
      · left; rw [h]; intro z; cases z
      · right; rw [h]; intro z; cases z
    have hirr : zr2 g nx ny (zrw a 0) (zrw c 0) = zr2 g (zrv a) (zrv c) (zrw a 0) (zrw c 0) := by
      refine zr2_irr (fun e => ?_) (fun e => ?_)
      · match a, hx, e, hta with
        | .inl v, hx, _, _ => exact hx.2
        | .inr (.inl _), _, e, _ => cases e
        | .inr (.inr _), _, e, _ => cases e
      · match c, hy, e, htc with
        | .inl v, hy, _, _ => exact hy.2
        | .inr (.inl _), _, e, _ => cases e
        | .inr (.inr _), _, e, _ => cases e
    rw [← hirr] at hQ
    refine C_rows hst hs (up h46) (up h49) hp hq hne hX64 (by omega) hcb2 (fun L eL hL => ⟨_, rfl, ?_⟩) (fun eN f' q => Or.inl ⟨rfl, ?_⟩)
    · have hA := fA_gw (fnew f 29) X.length L
      rw [eL] at hQ
      refine C_rowLate hst hA hcb (fA_rI (fnew f 29) X.length L (Nat.le_succ_of_le hz1) hL) (fun f' q1 q2 => ⟨rfl, ?_⟩)
      exact fin rfl hQ q1 q2.2.2.1 (by show _ ≤ 2 * (4 + L.length); omega) (by show ¬ 1 = 0; decide) (by show L.length ≤ 64; omega)
    · rw [eN] at hQ
      have := q.2.2.1
      exact exc _ rfl hQ f' (by omega)
  /- tables -/
  have tabs : ∀ {vx vy : Value} {T : List (List Int32)}, rcV E f nx vx (.leaf a) → rcV E f ny vy (.leaf c) → zun a c = false → (a = .inr (.inr T) ∨ (zisT a = false ∧ c = .inr (.inr T))) → ZW (zT T) → (∀ o s' f', cop E n md (match zallS ((List.range (zlen2 a c)).map (fun k => zr2 g (zrv a) (zrv c) (zrw a k) (zrw c k))) with | none => .inl 6 | some a => .inr (zT a)) place s f o s' f' → Q o s' f') → EvC l E w (d + 2) MX5_tables [.int g, vx, .int nx, vy, .int ny] s f (fun o s31 f32 => KP o (fun r => ∃ a33 : Nat, r = some (.ref a33) ∧ EvC l E w (d + 2) MX3_give_2 [.ref (w.1 3), .ref a33, .int 2, .int place] s31 f32 (fun o s34 f35 => KP o (fun r => r = none ∧ Q (.inl none) s34 (frz f35)) (fun k => (k = 36 ∧ ∀ a36 : Nat, EvC l E w (d + 2) MX3_wrong [.ref (w.1 3), .int 6, .int place] s34 f35 (fun o s1 f2 => KP o (fun r => r = some (.ref (w.1 9)) ∧ Q (.inr 9) s1 (frz f2)) (fun k => Q (.inr k) s1 (frz f2)))) ∨ (k = 9 ∧ Q (.inr 9) s34 (frz f35))))) (fun k => (k = 36 ∧ ∀ a39 : Nat, EvC l E w (d + 2) MX3_wrong [.ref (w.1 3), .int 6, .int place] s31 f32 (fun o s1 f2 => KP o (fun r => r = some (.ref (w.1 9)) ∧ Q (.inr 9) s1 (frz f2)) (fun k => Q (.inr k) s1 (frz f2)))) ∨ (k = 9 ∧ Q (.inr 9) s31 (frz f32)))) := by
    intro vx vy T hx hy hzu hT wT hQ
    obtain ⟨w1, w2, w3⟩ := wT
    obtain ⟨hzu1, hzu2⟩ := zun_no hzu
    have hlen : zlen2 a c = T.length := by
      rcases hT with h | ⟨h1, h2⟩
      · subst h; cases c with
        | inl _ => rfl
        | inr c => cases c <;> rfl
      · subst h2
        cases a with
        | inl _ => rfl
        | inr a => cases a with
          | inl _ => rfl
          | inr _ => cases h1
    have hone : ∀ k, zrw a k ≠ none ∨ zrw c k ≠ none := fun k => by
      rcases hT with h | ⟨_, h⟩
      · left; rw [h]; intro z; cases z
      · right; rw [h]; intro z; cases z
    have hirr : ∀ k, zr2 g nx ny (zrw a k) (zrw c k) = zr2 g (zrv a) (zrv c) (zrw a k) (zrw c k) := fun k => by
      refine zr2_irr (fun e => ?_) (fun e => ?_)
      · match a, hx, e with
        | .inl v, hx, _ => exact hx.2
        | .inr (.inl _), _, e => cases e
        | .inr (.inr _), _, e => cases e
      · match c, hy, e with
        | .inl v, hy, _ => exact hy.2
        | .inr (.inl _), _, e => cases e
        | .inr (.inr _), _, e => cases e
    have hmap : (List.range (zlen2 a c)).map (fun k => zr2 g (zrv a) (zrv c) (zrw a k) (zrw c k)) = (List.range T.length).map (fun k => zr2 g nx ny (zrw a k) (zrw c k)) := by
      rw [hlen]
      exact List.map_congr_left fun k _ => (hirr k).symm
    rw [hmap] at hQ
    rw [hlen] at hzu2
    have hla : ∀ k l, k < T.length → zrw a k = some l → l.length = (T.getD k []).length := fun k l hk e => by
      rcases hT with h | ⟨_, h⟩
      · rw [h] at e; cases e; rfl
      · have := hzu2 k hk
        rw [e, h] at this
        exact beq_iff_eq.mp this
    have hlc : ∀ k l, k < T.length → zrw c k = some l → l.length = (T.getD k []).length := fun k l hk e => by
      rcases hT with h | ⟨_, h⟩
      · have := hzu2 k hk
        rw [e, h] at this
        exact (beq_iff_eq.mp this).symm
      · rw [h] at e; cases e; rfl
    refine C_tables hst hs hx hy hT w1 w2 w3 hla hlc (fun t e => ?_) (fun t e => ?_) (by omega) hcb hz1 (fun R p f' eR hR1 hR2 hR3 q1 q2 => ⟨p, rfl, ?_⟩) (fun eN f' q => Or.inl ⟨rfl, ?_⟩)
    · rcases hT with h | ⟨h, _⟩
      · rw [h] at e; cases e; rfl
      · rw [e] at h; cases h
    · rcases hT with h | ⟨h, h2⟩
      · exact (hzu1 T t h e).symm
      · rw [h2] at e; cases e; rfl
    · rw [eR] at hQ
      exact fin rfl hQ q1 q2.2.2.1 (by show _ ≤ 2 * (4 + 4 * R.length + zis R); omega) (by show ¬ 2 = 0; decide) ⟨by omega, by omega, hR3⟩
    · rw [eN] at hQ
      have := q.2.2.1
      exact exc _ rfl hQ f' (by omega)
  refine alik (fun hzu => C_finW hst (k := 4) (ztwoL_un hzu) rfl (cfr.rf JC n s) h40 (by omega) hQ) (fun hzu => ?_)
  match a, hx, wx, hQ, @key, @tabs, hzu with
  | .inl v, hx, wx, hQ, key, tabs, hzu =>
    refine ⟨fun _ => ?_, fun p e => by rw [hx.1] at e; cases e⟩
    match c, hy, wy, hQ, @key, @tabs, hzu with
    | .inl u, hy, wy, hQ, key, tabs, hzu =>
      refine ⟨fun _ => ?_, fun p e => by rw [hy.1] at e; cases e⟩
      have hzl : ztwoL g (.inl v) (.inl u) = if zdv g = true ∧ u = 0 then .inl 6 else .inr (zI (zact g v u)) := rfl
      rw [hzl] at hQ
      rw [hx.2, hy.2]
      refine C_of hst hs (fun cz => ⟨_, rfl, ?_⟩) (fun cz => ⟨(by show f.2.1 + 3 + 222 ≤ BM; omega), Or.inl ⟨rfl, exc _ (if_pos cz) hQ _ (by show f.2.1 + 225 ≤ _; omega)⟩⟩)
      exact C_finIG hst (parts := 2) (f0 := f) (if_neg cz) (cfr.rf JC n s) (Nat.le_refl _) h26 (by omega) h40 (fun s' q => ⟨rfl, hQ _ _ _ q⟩)
    | .inr (.inl b), hy, wy, hQ, key, tabs, hzu =>
      obtain ⟨q, q2, q3⟩ := hy.isRow (t := zR b) 1 (by decide) (by decide) |>.1 rfl
      refine ⟨fun e => (by rw [q2] at e; cases e), fun p e => ?_⟩
      rw [e] at q2
      cases q2
      have hyT := hy.isT
      rw [e] at hyT hy
      have hx' : rcV E f nx .null (.leaf (.inl v)) := ⟨rfl, hx.2⟩
      rw [ztwoL_r hzu (Or.inr (fun v z => by cases z)) rfl rfl] at hQ
      exact ⟨hyT, br_f (by rw [q3]; intro z; cases z) (key (X := b) hx' hy hzu rfl rfl (Or.inr rfl) wy hQ)⟩
    | .inr (.inr b), hy, wy, hQ, key, tabs, hzu =>
      obtain ⟨q, q2, q3⟩ := hy.isRow (t := zT b) 2 (by decide) (by decide) |>.1 rfl
      refine ⟨fun e => (by rw [q2] at e; cases e), fun p e => ?_⟩
      rw [e] at q2
      cases q2
      have hyT := hy.isT
      rw [e] at hyT hy
      have hx' : rcV E f nx .null (.leaf (.inl v)) := ⟨rfl, hx.2⟩
      rw [ztwoL_t hzu (Or.inr rfl)] at hQ
      exact ⟨hyT, br_t q3 (tabs (T := b) hx' hy hzu (Or.inr ⟨rfl, rfl⟩) wy hQ)⟩
  | .inr (.inr b), hx, wx, hQ, key, tabs, hzu =>
    obtain ⟨q, q2, q3⟩ := hx.isRow (t := zT b) 2 (by decide) (by decide) |>.1 rfl
    refine ⟨fun e => (by rw [q2] at e; cases e), fun p e => ?_⟩
    rw [e] at q2
    cases q2
    have hxT := hx.isT
    rw [e] at hxT hx
    rw [ztwoL_t hzu (Or.inl rfl)] at hQ
    exact ⟨hxT, br_t q3 (tabs (T := b) hx hy hzu (Or.inl rfl) wx hQ)⟩
  | .inr (.inl b), hx, wx, hQ, key, tabs, hzu =>
    obtain ⟨q, q2, q3⟩ := hx.isRow (t := zR b) 1 (by decide) (by decide) |>.1 rfl
    refine ⟨fun e => (by rw [q2] at e; cases e), fun p e => ?_⟩
    rw [e] at q2
    cases q2
    have hxT := hx.isT
    rw [e] at hxT hx
    refine ⟨hxT, br_f (by rw [q3]; intro z; cases z) ⟨hy.isT, ?_⟩⟩
    have y2 := hy.isRow 2 (by decide) (by decide)
    cases htc : zisT c with
    | true =>
      match c, hy, wy, hQ, @tabs, hzu, htc, y2 with
      | .inl _, _, _, _, _, _, htc, _ => cases htc
      | .inr (.inl _), _, _, _, _, _, htc, _ => cases htc
      | .inr (.inr r), hy, wy, hQ, tabs, hzu, _, y2 =>
        obtain ⟨p', ep, tp⟩ := y2.1 rfl
        rw [ztwoL_t hzu (Or.inr rfl)] at hQ
        rw [ep] at hy
        exact is_y (X := True) ep tp (tabs (T := r) hx hy hzu (Or.inr ⟨rfl, rfl⟩) wy hQ)
    | false =>
      rw [ztwoL_r hzu (Or.inl (fun v z => by cases z)) rfl htc] at hQ
      refine is_n (y2.2 (fun z => ?_)) (key (X := b) hx hy hzu rfl htc (Or.inl rfl) wx hQ)
      match c, htc, z with
      | .inl _, _, z => cases z
      | .inr (.inl _), _, z => cases z
      | .inr (.inr _), htc, _ => cases htc
/-- ! X, - X -/
theorem C_sone (hst : l.stackTraces = false) {n md : Nat} {x : Th} {nt : Bool} {place : Int32} (h : COk E n md [x] s f) (hQ : ∀ o s' f', cop E n md (zone nt x) place s f o s' f' → Q o s' f') : EvC l E w (d + 3) MX5_one [.ref (w.1 5), .int (bI nt), .int place] s f Q := by
  obtain ⟨hx, wx, h26, h83⟩ := h.v1
  obtain ⟨⟨-, -, h40, hmd⟩, ⟨hr, hz, hcb⟩, -, -⟩ := h
  have hz1 : ez E ≤ f.1 := Nat.le_trans hz hcb
  refine EvC.pfrz (eX5_one hst fun y1 ey => ?_)
  rw [h26, nI_pred] at ey
  subst ey
  rw [nI_clamp (by omega)]
  have x3 := hx.isRow 3 (by decide) (by decide)
  refine ⟨inB_n (by omega), _, rfl, hx.isR, hx.isT, ?_⟩
  by_cases cx : zk x = 3
  · obtain ⟨p, ep, tp⟩ := x3.1 cx
    refine is_y (X := True) ep tp (C_finW hst (k := 3) ?_ rfl (cfr.rf JC n s) h40 (by omega) hQ)
    cases x with
    | leaf a => rcases a with _ | _ | _ <;> cases cx
    | branch _ _ _ => rfl
  refine is_n (x3.2 cx) ?_
  generalize hsg : (if nt = true then (317 : Int32) else 45) = g
  have hs : g ∈ zSg := by rw [← hsg]; cases nt <;> decide
  have hdv : zdv g = false := by rw [← hsg]; cases nt <;> rfl
  have hact : ∀ v, zact g 0 v = zone1 nt v := fun v => by
    rw [← hsg]
    cases nt with
    | true =>
      show (if (0 : Int32) = v then (1 : Int32) else 0) = (if v = 0 then 1 else 0)
      by_cases c : v = 0
      · rw [if_pos c, if_pos c.symm]
      · rw [if_neg c, if_neg (fun z => c z.symm)]
    | false => rfl
  have hzr : ∀ b : List Int32, zr2 g 0 0 none (some b) = some (b.map (zone1 nt)) := fun b => by
    rw [zr2_eqC (n := b.length) (fun l e => by cases e) (fun l e => by cases e; rfl) (Or.inr (by intro z; cases z)), if_neg (fun z => by rw [hdv] at z; cases z.1)]
    congr 1
    show List.zipWith (zact g) (List.replicate b.length 0) b = _
    refine List.ext_getElem (by rw [List.length_zipWith, List.length_replicate, List.length_map, Nat.min_self]) (fun i h1 h2 => ?_)
    rw [List.getElem_zipWith, List.getElem_replicate, List.getElem_map, hact]
  /- the thing's own two ways -/
  have both : ∀ p : Nat, s.2.2.2 25 n = .ref p → (isT f (.ref p) ∧ ((tg f p = some (.inl 29) → (tg f p = some (.inl 29) ∧ (rmF E f 1 1 ∧ ∀ (a15 : Nat) (f16 : RH), a15 = f.1 → f16 = fnew f 29 → (oc f16 p 29 ∧ ∃ a17 : Nat, vl f16 p 203 = .ref a17 ∧ EvC l E w (d + 2) MX5_rows [.int g, .null, .int 0, .ref a17, .int 0] s f16 (fun o s18 f19 => KP o (fun r => ∃ a20 : Nat, r = some (.ref a20) ∧ EvC l E w (d + 2) MX32_init [.ref a15, .ref a20] s18 f19 (fun o s21 f22 => KP o (fun r => r = none ∧ EvC l E w (d + 2) MX3_give_2 [.ref (w.1 3), .ref a15, .int 1, .int place] s21 f22 (fun o s1 f2 => KP o (fun r => r = none ∧ Q (.inl none) s1 (frz f2)) (fun k => Q (.inr k) s1 (frz f2)))) (fun k => Q (.inr k) s21 (frz f22)))) (fun k => Q (.inr k) s18 (frz f19))))))) ∧ (¬ tg f p = some (.inl 29) → EvC l E w (d + 2) MX5_tables [.int g, .null, .int 0, .ref p, .int 0] s f (fun o s25 f26 => KP o (fun r => ∃ a27 : Nat, r = some (.ref a27) ∧ EvC l E w (d + 2) MX3_give_2 [.ref (w.1 3), .ref a27, .int 1, .int place] s25 f26 (fun o s1 f2 => KP o (fun r => r = none ∧ Q (.inl none) s1 (frz f2)) (fun k => Q (.inr k) s1 (frz f2)))) (fun k => Q (.inr k) s25 (frz f26)))))) := by
    intro p ep
    rw [ep] at hx
    match x, hx, wx, hQ, cx with
    | .leaf (.inl _), hx, _, _, _ => cases hx.1
    | .leaf (.inr (.inl b)), hx, wx, hQ, _ =>
      obtain ⟨p', q, v1, v2, v3, v4, v5, v6, v7, v8, v9⟩ := rcT.row hx
      cases v1
      have hp1 : p < f.1 := Nat.lt_of_lt_of_le v2 hcb
      have gw := fnew_gw f 29
      have hbud := gw.2.2.1
      rw [CZ29] at hbud
      have wl : b.length ≤ 64 := wx
      refine ⟨rcT.isT hx, br_t v3.1 ⟨v3.1, (by show f.2.1 + 1 + 1 ≤ BM; omega), fun a15 f16 e1 e2 => ?_⟩⟩
      subst e1 e2
      refine ⟨gw.ocE hp1 v3, q, by rw [gw.vlE hp1]; exact v4, ?_⟩
      refine C_rows hst hs (p := none) (q := some b) (n := b.length) rfl (rcI_up (Nat.le_succ_of_le hcb) (gw.rI hcb v9)) (fun l e => by cases e) (fun l e => by cases e; rfl) (Or.inr (by intro z; cases z)) wl (by omega) (Nat.le_succ_of_le hcb) (fun L eL hL => ⟨_, rfl, ?_⟩) (fun eN => by rw [hzr] at eN; cases eN)
      rw [hzr] at eL
      cases eL
      refine C_rowLate hst (fA_gw (fnew f 29) b.length (b.map (zone1 nt))) hcb (fA_rI (fnew f 29) b.length _ (Nat.le_succ_of_le hz1) hL) (fun f' q1 q2 => ⟨rfl, ?_⟩)
      exact C_fin hst (parts := 1) (f0 := f) rfl (cfr.rf JC n s) q2.2.2.1 q1 (by show ¬ 1 = 0; decide) (by show (b.map _).length ≤ 64; omega) h26 (by omega) h40 hmd (by show _ ≤ 2 * (4 + (b.map _).length); omega) hQ
    | .leaf (.inr (.inr b)), hx, wx, hQ, _ =>
      obtain ⟨w1, w2, w3⟩ := wx
      obtain ⟨p', q, v1, v2, v3, _⟩ := rcT.tab hx
      cases v1
      have hall : zallS ((List.range b.length).map (fun k => zr2 g 0 0 (zrw (.inl 0) k) (zrw (.inr (.inr b)) k))) = some (b.map (List.map (zone1 nt))) := by
        refine zallS_someC ?_
        refine List.ext_getElem (by rw [List.length_map, List.length_map, List.length_map, List.length_range]) (fun i h1 h2 => ?_)
        have hi : i < b.length := by rw [List.length_map, List.length_range] at h1; exact h1
        rw [List.getElem_map, List.getElem_map, List.getElem_map, List.getElem_range]
        show zr2 g 0 0 none (some (b.getD i [])) = _
        rw [hzr, getD_lt [] hi]
      have hx0 : rcV E f 0 .null (.leaf (.inl 0)) := ⟨rfl, rfl⟩
      refine ⟨rcT.isT hx, br_f (by rw [v3.1]; intro z; cases z) ?_⟩
      refine C_tables hst hs (x := .inl 0) (y := .inr (.inr b)) (T := b) hx0 hx (Or.inr ⟨rfl, rfl⟩) w1 w2 w3 (fun k l _ e => by cases e) (fun k l _ e => by cases e; rfl) (fun t e => by cases e) (fun t e => by cases e; rfl) (by omega) hcb hz1 (fun R p f' eR hR1 hR2 hR3 q1 q2 => ⟨p, rfl, ?_⟩) (fun eN => by rw [hall] at eN; cases eN)
      rw [hall] at eR
      cases eR
      exact C_fin hst (parts := 1) (f0 := f) rfl (cfr.rf JC n s) q2.2.2.1 q1 (by show ¬ 2 = 0; decide) ⟨by omega, by omega, hR3⟩ h26 (by omega) h40 hmd (by show _ ≤ 2 * (4 + 4 * (b.map _).length + zis (b.map _)); omega) hQ
    | .branch _ _ _, _, _, _, cx => exact absurd rfl cx
  refine ⟨fun e => ?_, fun p e => ?_⟩
  · rcases hx.cls with ⟨e0, e1, e2⟩ | ⟨p, e1, _⟩
    · have hzo : zone nt x = .inr (zI (zone1 nt (s.2.2.1 24 n))) := by
        rw [e2]
        conv => lhs; rw [zk0 e0]
        rfl
      cases nt with
      | false =>
        refine br_t rfl ⟨inB_n (by omega), ?_⟩
        refine C_finI hst (parts := 1) (hzo.trans ?_) (cfr.rf JC n s) (Nat.le_refl _) h26 (by omega) h40 hQ
        show Sum.inr (zI (0 - s.2.2.1 24 n)) = _
        rw [Int32.zero_sub]
      | true =>
        refine br_f (by decide) ⟨inB_n (by omega), fun c => ?_, fun c => ?_⟩
        · refine C_finI hst (parts := 1) (hzo.trans ?_) (cfr.rf JC n s) (Nat.le_refl _) h26 (by omega) h40 hQ
          show Sum.inr (zI (if s.2.2.1 24 n = 0 then 1 else 0)) = _
          rw [if_neg c]
        · refine C_finI hst (parts := 1) (hzo.trans ?_) (cfr.rf JC n s) (Nat.le_refl _) h26 (by omega) h40 hQ
          show Sum.inr (zI (if s.2.2.1 24 n = 0 then 1 else 0)) = _
          rw [if_pos c]
    · rw [e] at e1; cases e1
  · have hb := both p e
    cases nt with
    | false =>
      have hg : g = 45 := hsg.symm
      subst hg
      exact br_t rfl hb
    | true =>
      have hg : g = 317 := hsg.symm
      subst hg
      exact br_f (by decide) hb
end CTw2
