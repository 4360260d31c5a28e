/-! THE MODEL: built-ins of two things -/
theorem mfg.fr0 {s s' : MS} (h : mfg JS s s') (b n : Nat) : mfr J0 b n s s' := h.fr b n
section MQ2
variable {l : Launch} {E : EN} {w : MO} {d : Nat} {s s0 : MS} {Q : Option Value → MS → Prop} {b n md b1 : Nat}
theorem M_areSame (hst : l.stackTraces = false) {p q : Nat} {x y : Th} (hp : rmT (s.2.2.1 104) b true x p 0) (hq : rmT (s.2.2.1 104) b true y q 0) (wx : ZW x) (wy : ZW y) (hb : b ≤ 166300) (hQ : ∀ s', mfg JS s s' → Q (some (.int (same x y))) s') : EvM l E w (d + 3) MX10_areSame [.ref w.1, .int (nI p), .int (nI q)] s Q := by
  have hh := rmT_head hp
  have hh' := rmT_head hq
  have kx := zk_le x
  have ky := zk_le y
  refine eX10_areSame hst ⟨inB_n (by omega), inB_n (by omega), ?_⟩
  rw [nI_clamp (by omega), nI_clamp (by omega), hh.2.1, hh'.2.1]
  refine pk_eq (zk x) (zk y) (fun c => ⟨inB_n (by omega), pk_eq (zk x) 3 (fun c3 => ?_) (fun c3 => ?_) rfl rfl⟩) (fun c => ?_) rfl rfl
  · rcases zcases wx with ⟨v, h⟩ | ⟨a, h, h1⟩ | ⟨a, h, h1, h2, h3⟩ | ⟨tx, ex, h1, h2, h3, h4⟩
    · rw [h] at c3; exact absurd c3 (by show ¬ 0 = 3; decide)
    · rw [h] at c3; exact absurd c3 (by show ¬ 1 = 3; decide)
    · rw [h] at c3; exact absurd c3 (by show ¬ 2 = 3; decide)
    rcases zcases wy with ⟨v, h⟩ | ⟨a, h, h1'⟩ | ⟨a, h, h1', h2', h3'⟩ | ⟨ty, ey, h1', h2', h3', h4'⟩
    · rw [h] at c; exact absurd (c3.symm.trans c) (by show ¬ 3 = 0; decide)
    · rw [h] at c; exact absurd (c3.symm.trans c) (by show ¬ 3 = 1; decide)
    · rw [h] at c; exact absurd (c3.symm.trans c) (by show ¬ 3 = 2; decide)
    have nx : zn x = tx.length := by rw [ex, zn_ze, zl_zP]
    have ny : zn y = ty.length := by rw [ey, zn_ze, zl_zP]
    refine M_sizeR hst hp hb ⟨_, rfl, M_sizeR hst hq hb ⟨_, rfl, ?_⟩⟩
    rw [nx, ny]
    have e112 : (sI s 112 0).1 112 = nI 0 := rfl
    have no : ¬ x = y → ∀ s9, mfg JS s s9 → ExM l E w (d + 3) MX10_areSame 64 [some (.ref w.1), none, none, some (.int 0), none, none, none, none, none] [] s9 Q := by
      intro h s9 hg
      have := hQ s9 hg
      rw [same_f h] at this
      exact vX10_areSame_64 ⟨fun _ => ⟨nb0, this⟩, fun c => absurd rfl c⟩
    have hg2 : mfg JS s (sI (sA (sA (sA (sI s 112 0) 109 0 (nI p)) 110 0 (nI q)) 111 0 0) 112 (nI (0 + 1))) := ((((mfg.sI JS s 112 _).trans (mfg.gA JS _ _)).trans (mfg.gA JS _ _)).trans (mfg.gA JS _ _)).trans (mfg.sI JS _ 112 _)
    refine bn_eq tx.length ty.length (fun cl => ?_) (fun cl => ?_) rfl rfl
    · refine eX10_goesIn hst ?_
      rw [e112, nI_clamp (by omega), nI_1]
      refine ⟨inB_n (by omega), inB_n (by omega), inB_n (by omega), rfl, no (fun e => cl ?_) _ hg2⟩
      rw [ex, ey] at e
      rw [zP_inj e]
    · refine eX10_goesIn hst ?_
      rw [e112, nI_clamp (by omega), nI_1]
      refine ⟨inB_n (by omega), inB_n (by omega), inB_n (by omega), rfl, ?_⟩
      refine M_samL hst hb x wx tx ex ty h4' cl.symm tx.length 0 0 p q _ (by omega) (by rw [List.take_zero, List.take_zero]) (by rw [zd_zP]; omega) (by rw [← ex]; exact hp) (by rw [← ey]; exact hq) rfl rfl rfl rfl ?_ ?_
      · intro e s' r1 r2 _
        have := hQ s' (hg2.trans r1)
        rw [same_t (by rw [ex, ey, e])] at this
        exact vX10_areSame_64 ⟨fun c => absurd c (by decide), fun _ => ⟨fun _ => ⟨nb1, this⟩, fun c => absurd (by rw [r2]; decide) c⟩⟩
      · intro e s' r1
        exact no (fun z => e (by rw [ex, ey] at z; exact zP_inj z)) s' (hg2.trans r1)
  · refine M_plainSame hst hp hq (by omega) c hb ⟨_, rfl, ?_, hQ s (mfg.rf JS s)⟩
    unfold same
    split
    · exact nb1
    · exact nb0
  · have := hQ s (mfg.rf JS s)
    rw [same_f (fun e => c (by rw [e]))] at this
    exact this
/-- find -/
theorem M_find (hst : l.stackTraces = false) {x y : Th} {vx vy : Int32} (hi : MOk b n md [x, y] s) (hvx : vx = s.2.2.1 107 n) (hvy : vy = s.2.2.1 107 (n + 1)) (hx1 : zk x = 1) (hy1 : zk y ≤ 1) (hQ : ∀ s', mop b n md (zbi2 24 x y) s s' → Q none s') : EvM l E w (d + 4) MX10_ofTwo [.ref w.1, .int 24, .int vx, .int vy, .int (nI n)] s Q := by
  have ha := hi.acc
  have hC := hi.ctx
  have hn := hC.2.1
  have hb := hC.1
  obtain ⟨m4, hx, hy, wx, wy⟩ := hi.two
  have hy' := hy
  rw [← hvx] at hx
  rw [← hvy] at hy
  obtain ⟨-, p, rfl, hr⟩ := hx.thing (by omega)
  rw [zbi2_24, if_neg (by omega)] at hQ
  rw [zk1 hx1] at hr
  generalize zr x = a at hr hQ
  refine eX10_ofTwo hst ⟨fun c => absurd c (by decide), fun _ => ⟨fun c => absurd c (by decide), fun _ => ⟨fun c => absurd c (by decide), fun _ => ⟨fun c => absurd c (by decide), fun _ => ⟨fun _ => ?_, fun c => absurd rfl c⟩⟩⟩⟩⟩
  rw [nI_1]
  refine M_kindAt hst hy' (by omega) (by omega) ⟨_, rfl, bn_eq (zk y) 0 (fun c => ?_) (fun c => ?_) rfl rfl⟩
  · rw [if_neg c] at hQ
    obtain ⟨-, q, rfl, hq⟩ := hy.thing c
    have ey := zk1 (t := y) (by omega)
    rw [ey] at hq wy
    generalize zr y = u at hq wy hQ
    have wu : u.length ≤ 64 := wy
    have main : ∀ m i (s' : MS), i + m = u.length → MAcc b n s b (((u.take i).map (zfind a)).map zI) s' → ExM l E w (d + 4) MX10_ofTwo 123 [some (.ref w.1), none, some (.int (nI p)), some (.int (nI q)), some (.int (nI n)), none, some (.int (nI i))] [] s' Q := by
      intro m
      induction m with
      | zero =>
        intro i s' hi hA
        have hi : i = u.length := hi
        rw [List.take_of_length_le (by omega)] at hA
        refine vX10_ofTwo_123 (M_sizeA hst hA hq (by omega) ⟨_, rfl, pk_le u.length i (fun _ => K_row hst hC hA (fun s2 q2 => hQ s2 ?_)) (fun c => by omega) rfl rfl⟩)
        rw [zmk_ok (show ZW (zR (u.map (zfind a))) by show (u.map _).length ≤ 64; rw [List.length_map]; exact wu)] at q2
        exact q2
      | succ m ih =>
        intro i s' hi hA
        obtain ⟨t1, t2⟩ := hA.rowAt hq (show i < u.length by omega)
        have hl : (((u.take i).map (zfind a)).map zI).length = i := by rw [List.length_map, List.length_map, List.length_take]; omega
        refine vX10_ofTwo_123 (M_sizeA hst hA hq (by omega) ⟨_, rfl, pk_le u.length i (fun c => by omega) (fun _ => ?_) rfl rfl⟩)
        rw [nI_l2, nI_add, nI_clamp (by omega), t2]
        refine ⟨inB_n (by omega), M_findIn hst hA hr hb ⟨_, rfl, hA.pI hst (by omega) (fun s2 q2 => ?_)⟩⟩
        rw [nI_1]
        refine ih (i + 1) s2 (by omega) ?_
        rw [take_succ_getD u 0 i (by omega), List.map_append, List.map_append]
        exact q2
    exact main u.length 0 _ (by omega) ha
  · rw [if_pos c] at hQ
    have ey := zk0 c
    have hv : vy = zv y := by rw [ey] at hy; exact (rmV.int hy).2
    rw [hv]
    exact M_findIn hst ha hr hb ⟨_, rfl, K_int hst hC ha hQ⟩
/-- same -/
theorem M_same (hst : l.stackTraces = false) {x y : Th} {vx vy : Int32} (hi : MOk b n md [x, y] s) (hvx : vx = s.2.2.1 107 n) (hvy : vy = s.2.2.1 107 (n + 1)) (hQ : ∀ s', mop b n md (zbi2 27 x y) s s' → Q none s') : EvM l E w (d + 4) MX10_ofTwo [.ref w.1, .int 27, .int vx, .int vy, .int (nI n)] s Q := by
  have ha := hi.acc
  have hC := hi.ctx
  have hn := hC.2.1
  have hb := hC.1
  obtain ⟨m4, hx, hy, wx, wy⟩ := hi.two
  rw [← hvx] at hx
  rw [← hvy] at hy
  rw [zbi2_27] at hQ
  have hQ : ∀ s', mop b n md (.inr (zI (same x y))) s s' → Q none s' := hQ
  refine eX10_ofTwo hst ⟨fun c => absurd c (by decide), fun _ => ⟨fun c => absurd c (by decide), fun _ => ⟨fun c => absurd c (by decide), fun _ => ⟨fun c => absurd c (by decide), fun _ => ⟨fun c => absurd c (by decide), fun _ => ⟨fun c => absurd c (by decide), fun _ => ⟨fun c => absurd c (by decide), fun _ => ?_⟩⟩⟩⟩⟩⟩⟩
  rw [nI_1, nI_clamp (by omega), nI_clamp (by omega)]
  refine ⟨inB_n (by omega), inB_n (by omega), ?_⟩
  by_cases x0 : zk x = 0
  · have ex := zk0 x0
    rw [ex] at hx
    obtain ⟨hk, hvv⟩ := rmV.int hx
    rw [hk]
    by_cases y0 : zk y = 0
    · have ey := zk0 y0
      rw [ey] at hy
      obtain ⟨hk', hvv'⟩ := rmV.int hy
      rw [hk']
      refine ⟨fun c => absurd rfl c, fun _ => ⟨inB_n (by omega), fun c => absurd rfl c, fun _ => ⟨fun c => ?_, fun c => ?_⟩⟩⟩
      · rw [same_f (fun e => c (by rw [hvv, hvv', e]))] at hQ
        exact K_int hst hC ha hQ
      · rw [same_t (by rw [ex, ey, ← hvv, ← hvv', c])] at hQ
        exact K_int hst hC ha hQ
    · obtain ⟨hk', q, rfl, hq⟩ := hy.thing y0
      rw [hk']
      refine ⟨fun _ => ?_, fun c => absurd c (by decide)⟩
      rw [same_f (fun e => y0 (by rw [← e]; exact x0))] at hQ
      exact K_int hst hC ha hQ
  · obtain ⟨hk, p, rfl, hp⟩ := hx.thing x0
    rw [hk]
    by_cases y0 : zk y = 0
    · have ey := zk0 y0
      rw [ey] at hy
      obtain ⟨hk', hvv'⟩ := rmV.int hy
      rw [hk']
      refine ⟨fun _ => ?_, fun c => absurd c (by decide)⟩
      rw [same_f (fun e => x0 (by rw [e]; exact y0))] at hQ
      exact K_int hst hC ha hQ
    · obtain ⟨hk', q, rfl, hq⟩ := hy.thing y0
      rw [hk']
      refine ⟨fun c => absurd rfl c, fun _ => ⟨inB_n (by omega), fun _ => ?_, fun c => absurd c (by decide)⟩⟩
      refine M_areSame hst hp hq wx wy (by omega) (fun s1 hg => ⟨_, rfl, ?_⟩)
      have ha1 : MAcc b n s b [] (sI s1 108 (nI n)) := ⟨(hg.fr b n).trans (mfr.sI J0 b n s1 108 _), Nat.le_refl b, (hg.1 105 (by decide)).trans hi.1.1, hi.1.2.1, by show n + 0 ≤ 8900; omega, rfl, fun i hi => absurd hi (Nat.not_lt_zero i)⟩
      by_cases e : x = y
      · rw [same_t e] at hQ ⊢
        exact ⟨fun c => absurd c (by decide), fun _ => K_int hst hC ha1 hQ⟩
      · rw [same_f e] at hQ ⊢
        exact ⟨fun _ => K_int hst hC ha1 hQ, fun c => absurd rfl c⟩
end MQ2
