section MT5
variable {l : Launch} {E : EN} {w : MO} {d : Nat} {s : MS} {Q : Option Value → MS → Prop}
abbrev tw194 (w : MO) (a1 a2 a3 a4 a5 a6 a7 a8 a9 : Int32) : LO := [some (.ref w.1), some (.int a1), some (.int a2), some (.int a3), some (.int a4), some (.int a5), some (.int a6), some (.int a7), some (.int a8), some (.int a9), none, none, none, none, none, none, none, none, none, none, none]
theorem M_tw194 (hst : l.stackTraces = false) {sg : Int32} (hs : sg ∈ zSg) {b n md : Nat} {s0 : MS} {X Y : Lf} {kx xv ky yv : Int32} (hx : rmV (s0.2.2.1 104) b kx xv (.leaf X)) (hy : rmV (s0.2.2.1 104) b ky yv (.leaf Y)) (wx : ZW (.leaf X)) (wy : ZW (.leaf Y))
    (hXY : ¬ ((∃ v, X = .inl v) ∧ ∃ v, Y = .inl v)) (hb : b ≤ 157600) (hn : n ≤ 8350) (hmd : s0.1 119 = nI md) (hm3 : md ≤ 3000) (h0 : s0.1 123 = 0) (hQ : ∀ s', mop b n md (ztwoL sg X Y) s0 s' → Q none s') (ha : MAcc b n s0 b [] s) :
    ExM l E w (d + 4) MX10_two 194 (tw194 w (zsM sg) kx xv ky yv (nI (zk (.leaf X))) (nI (zk (.leaf Y))) (nI n) (fl (zdv sg))) [.int (fl (zisT X || zisT Y))] s Q := by
  have go := M_tw264 (d := d) (E := E) (w := w) hst hs hx hy wx wy hXY hb hn hmd hm3 h0 hQ ha
  have nR : ∀ t : List (List Int32), ZW (zT t) → t.length < 2 ^ 31 := fun t h => by have := h.1; omega
  refine vX10_two_194 ?_
  match X, Y, hx, hy, wx, wy, hXY, go with
  | .inl _, .inl _, _, _, _, _, h, _ => exact absurd ⟨⟨_, rfl⟩, ⟨_, rfl⟩⟩ h
  | .inl _, .inr (.inl _), _, _, _, _, _, go =>
    exact ⟨fun _ => ⟨fun _ => ⟨fun _ => go, fun c => absurd c (by show ¬ nI 0 = 2; decide)⟩, fun c => absurd c (by show ¬ nI 1 = 2; decide)⟩, fun c => absurd c (by show ¬ nI 0 = 2; decide)⟩
  | .inr (.inl _), .inl _, _, _, _, _, _, go =>
    exact ⟨fun _ => ⟨fun _ => ⟨fun _ => go, fun c => absurd c (by show ¬ nI 1 = 2; decide)⟩, fun c => absurd c (by show ¬ nI 0 = 2; decide)⟩, fun c => absurd c (by show ¬ nI 1 = 2; decide)⟩
  | .inr (.inl _), .inr (.inl _), _, _, _, _, _, go =>
    exact ⟨fun _ => ⟨fun _ => ⟨fun _ => go, fun c => absurd c (by show ¬ nI 1 = 2; decide)⟩, fun c => absurd c (by show ¬ nI 1 = 2; decide)⟩, fun c => absurd c (by show ¬ nI 1 = 2; decide)⟩
  | .inl _, .inr (.inr t), _, hy, _, wy, _, go =>
    obtain ⟨-, p, rfl, hr⟩ := hy.thing (by show ¬ 2 = 0; decide)
    refine ⟨fun _ => ⟨fun c => absurd rfl c, fun _ => M_sizeA hst ha hr (by omega) ⟨_, rfl, fun _ => go, fun c => absurd c (by show ¬ nI 0 = 2; decide)⟩⟩, fun c => absurd c (by show ¬ nI 0 = 2; decide)⟩
  | .inr (.inl _), .inr (.inr t), _, hy, _, wy, _, go =>
    obtain ⟨-, p, rfl, hr⟩ := hy.thing (by show ¬ 2 = 0; decide)
    refine ⟨fun _ => ⟨fun c => absurd rfl c, fun _ => M_sizeA hst ha hr (by omega) ⟨_, rfl, fun _ => go, fun c => absurd c (by show ¬ nI 1 = 2; decide)⟩⟩, fun c => absurd c (by show ¬ nI 1 = 2; decide)⟩
  | .inr (.inr t), .inl _, hx, _, _, _, _, go =>
    obtain ⟨-, p, rfl, hr⟩ := hx.thing (by show ¬ 2 = 0; decide)
    exact ⟨fun c => absurd rfl c, fun _ => M_sizeA hst ha hr (by omega) ⟨_, rfl, fun c => absurd rfl c, fun _ => ⟨fun _ => go, fun c => absurd c (by show ¬ nI 0 = 2; decide)⟩⟩⟩
  | .inr (.inr t), .inr (.inl _), hx, _, _, _, _, go =>
    obtain ⟨-, p, rfl, hr⟩ := hx.thing (by show ¬ 2 = 0; decide)
    exact ⟨fun c => absurd rfl c, fun _ => M_sizeA hst ha hr (by omega) ⟨_, rfl, fun c => absurd rfl c, fun _ => ⟨fun _ => go, fun c => absurd c (by show ¬ nI 1 = 2; decide)⟩⟩⟩
  | .inr (.inr t), .inr (.inr u), hx, hy, wx, wy, _, go =>
    obtain ⟨-, p, rfl, hr⟩ := hx.thing (by show ¬ 2 = 0; decide)
    obtain ⟨-, q, rfl, hr'⟩ := hy.thing (by show ¬ 2 = 0; decide)
    refine ⟨fun c => absurd rfl c, fun _ => M_sizeA hst ha hr (by omega) ⟨_, rfl, fun c => absurd rfl c, fun _ => ⟨fun c => absurd rfl c, fun _ => M_sizeA hst ha hr (by omega) ⟨_, rfl, M_sizeA hst ha hr' (by omega) ⟨_, rfl, ?_⟩⟩⟩⟩⟩
    have e : zld (.inr (.inr t)) (.inr (.inr u)) = (t.length != u.length) := rfl
    rw [e] at go
    refine pk_eq t.length u.length (fun c => ?_) (fun c => ?_) rfl rfl (nR t wx) (nR u wy)
    · rw [show (t.length != u.length) = false by simpa using c] at go
      exact go
    · rw [show (t.length != u.length) = true by simpa using c] at go
      exact go
theorem M_two (hst : l.stackTraces = false) {sg : Int32} (hs : sg ∈ zSg) {b n md : Nat} {x y : Th} (hi : MOk b n md [x, y] s) (hQ : ∀ s', mop b n md (ztwo sg x y) s s' → Q none s') : EvM l E w (d + 4) MX10_two [.ref w.1, .int (zsM sg)] s Q := by
  have ha := hi.acc
  obtain ⟨m4, hx, hy, wx, wy⟩ := hi.two
  obtain ⟨⟨m1, m2, m3, _, _⟩, hb, hn, hmd, hm3, h0, _⟩ := hi
  have zx := zk_le x
  have zy := zk_le y
  refine eX10_two hst ?_
  rw [m4, nI_s2, nI_pred, nI_clamp (by omega), nI_clamp (by omega)]
  refine ⟨inB_n (by omega), fun y1 e1 => ⟨inB_n (by omega), fun y2 e2 => ⟨inB_n (by omega), fun y3 e3 => ⟨inB_n (by omega), fun y4 e4 => ?_⟩⟩⟩⟩
  rw [← e1, ← e2] at hx
  rw [← e3, ← e4] at hy
  refine M_kindAt hst (by rw [← e1, ← e2]; exact hx) (by omega) (by omega) ⟨_, rfl, ?_⟩
  rw [m4, nI_pred]
  refine M_kindAt hst (by rw [← e3, ← e4]; exact hy) (by omega) (by omega) ⟨_, rfl, fun y9 e9 => ?_⟩
  rw [m4, nI_s2] at e9
  subst e9
  rw [m4, nI_s2]
  have h3 : zk x = 3 ∨ zk y = 3 → EvM l E w (d + 3) MX10_trouble [.ref w.1, .int 3, .int (s.1 127)] (sI s 108 (nI n)) (fun r s10 => r = none ∧ Q none s10) := by
    intro c
    have hz : ztwo sg x y = .inl 3 := by
      match x, y, c with
      | .branch _ _ _, _, _ => rfl
      | .leaf _, .branch _ _ _, _ => rfl
      | .leaf a, .leaf b', c =>
        exfalso
        have h1 : ∀ z : Lf, zk (.leaf z) ≠ 3 := fun z => by
          match z with
          | .inl _ => show 0 ≠ 3; decide
          | .inr (.inl _) => show 1 ≠ 3; decide
          | .inr (.inr _) => show 2 ≠ 3; decide
        rcases c with c | c
        · exact h1 _ c
        · exact h1 _ c
    rw [hz] at hQ
    exact M_tmop hst ha.1 m1 (Nat.le_refl b) (by omega) hmd h0 rfl rfl (fun s' q => ⟨rfl, hQ s' q⟩)
  have hG : zk x ≠ 3 → zk y ≠ 3 → ¬ (zk x = 0 ∧ zk y = 0) → ∀ t : Int32, t = fl (decide (zk x = 2 ∨ zk y = 2)) → ExM l E w (d + 4) MX10_two 194 (tw194 w (zsM sg) y1 y2 y3 y4 (nI (zk x)) (nI (zk y)) (nI n) (fl (zdv sg))) [.int t] (sI s 108 (nI n)) Q := by
    intro c1 c2 c3 t et
    match x, y, hx, hy, wx, wy, c1, c2, c3, hQ, et with
    | .branch _ _ _, _, _, _, _, _, c1, _, _, _, _ => exact absurd rfl c1
    | .leaf _, .branch _ _ _, _, _, _, _, _, c2, _, _, _ => exact absurd rfl c2
    | .leaf X, .leaf Y, hx, hy, wx, wy, _, _, c3, hQ, et =>
      have e : t = fl (zisT X || zisT Y) := by
        rw [et]
        match X, Y with
        | .inl _, .inl _ => rfl
        | .inl _, .inr (.inl _) => rfl
        | .inl _, .inr (.inr _) => rfl
        | .inr (.inl _), .inl _ => rfl
        | .inr (.inl _), .inr (.inl _) => rfl
        | .inr (.inl _), .inr (.inr _) => rfl
        | .inr (.inr _), .inl _ => rfl
        | .inr (.inr _), .inr (.inl _) => rfl
        | .inr (.inr _), .inr (.inr _) => rfl
      rw [e]
      refine M_tw194 hst hs hx hy wx wy ?_ hb hn hmd hm3 h0 hQ ha
      rintro ⟨⟨v, rfl⟩, ⟨v', rfl⟩⟩
      exact c3 ⟨rfl, rfl⟩
  have hA : zk x = 0 → zk y = 0 → (zdv sg = true → ¬ y4 = 0) → EvM l E w (d + 3) MX10_act [.int (zsM sg), .int y2, .int y4] (sI s 108 (nI n)) (fun r s11 => ∃ v12 : Int32, r = some (.int v12) ∧ (EvM l E w (d + 3) MX10_push [.ref w.1, .int 0, .int v12] s11 (fun r s13 => r = none ∧ Q none s13))) := by
    intro c1 c2 cz
    have ex := zk0 c1
    have ey := zk0 c2
    rw [ex] at hx
    rw [ey] at hy
    have hz : ztwo sg x y = .inr (zI (zact sg y2 y4)) := by
      rw [ex, ey, (rmV.int hx).2, (rmV.int hy).2]
      show (if zdv sg = true ∧ zv y = 0 then _ else _) = _
      rw [if_neg]
      rintro ⟨z1, z2⟩
      exact cz z1 ((rmV.int hy).2.trans z2)
    rw [hz] at hQ
    refine M_act hst hs cz ⟨_, rfl, M_push hst rfl (by omega) ⟨rfl, hQ _ ?_⟩⟩
    exact MAcc.mopI (ha.pushI _ (by show n + 0 < 8900; omega)) rfl hmd h0
  have h6 : zk x = 0 → zk y = 0 → y4 = 0 → zdv sg = true → EvM l E w (d + 3) MX10_trouble [.ref w.1, .int 6, .int (s.1 127)] (sI s 108 (nI n)) (fun r s14 => r = none ∧ Q none s14) := by
    intro c1 c2 c4 cz
    have ex := zk0 c1
    have ey := zk0 c2
    rw [ex] at hx
    rw [ey] at hy
    have hz : ztwo sg x y = .inl 6 := by
      rw [ex, ey]
      show (if zdv sg = true ∧ zv y = 0 then _ else _) = _
      rw [if_pos ⟨cz, (rmV.int hy).2.symm.trans c4⟩]
    rw [hz] at hQ
    exact M_tmop hst ha.1 m1 (Nat.le_refl b) (by omega) hmd h0 rfl rfl (fun s' q => ⟨rfl, hQ s' q⟩)
  have hdv : zdv sg = true ↔ (zsM sg = 47 ∨ zsM sg = 37) := by
    exact zSg_cases (P := fun sg => zdv sg = true ↔ (zsM sg = 47 ∨ zsM sg = 37)) (by decide) hs
  have dv1 : zdv sg = true → _ := fun h => b_two1 (kx := zk x) (ky := zk y) (y4 := y4) rfl rfl zx zy h3 (fun c1 c2 c3 => hA c1 c2 (fun _ => c3)) (fun c1 c2 c3 => h6 c1 c2 c3 h) (fun c1 c2 c3 => hG c1 c2 (by omega) 1 (by rw [decide_eq_true c3]; rfl)) (fun c1 c2 c3 c4 c5 => hG c1 c2 c5 0 (by rw [decide_eq_false (by omega)]; rfl))
  have dv0 : ¬ zdv sg = true → _ := fun h => b_two0 (kx := zk x) (ky := zk y) rfl rfl zx zy h3 (fun c1 c2 => hA c1 c2 (fun z => absurd z h)) (fun c1 c2 c3 => hG c1 c2 (by omega) 1 (by rw [decide_eq_true c3]; rfl)) (fun c1 c2 c3 c4 c5 => hG c1 c2 c5 0 (by rw [decide_eq_false (by omega)]; rfl))
  refine ⟨fun c => ?_, fun c => ⟨fun c' => ?_, fun c' => ?_⟩⟩
  · have hz := hdv.mpr (Or.inl c)
    have := dv1 hz
    rw [hz] at this
    exact this
  · have hz : ¬ zdv sg = true := fun z => (hdv.mp z).elim c c'
    have := dv0 hz
    rw [show zdv sg = false by simpa using hz] at this
    exact this
  · have hz := hdv.mpr (Or.inr c')
    have := dv1 hz
    rw [hz] at this
    exact this
end MT5
