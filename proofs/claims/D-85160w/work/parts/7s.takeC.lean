/-! THE COMPONENT: take, drop -/
theorem iSt_take {α : Type} (dd : α) (L : List α) (K : Nat) (h : K ≤ L.length) : iSt dd L 0 K = L.take K := by
  refine List.ext_getElem (by rw [iSt_len, List.length_take]; omega) fun i hi hi2 => ?_
  rw [iSt_len] at hi
  rw [← getD_lt dd, iSt_getD _ _ _ _ _ _ hi, if_pos (by omega), List.getElem_take]
  have e : ((0 : Int) + (i : Int)).toNat = i := by omega
  rw [e, getD_lt dd (by omega)]
theorem iSt_drop {α : Type} (dd : α) (L : List α) (u : Nat) (h : u ≤ L.length) : iSt dd L u (L.length - u) = L.drop u := by
  refine List.ext_getElem (by rw [iSt_len, List.length_drop]) fun i hi hi2 => ?_
  rw [iSt_len] at hi
  rw [← getD_lt dd, iSt_getD _ _ _ _ _ _ hi, if_pos (by omega), List.getElem_drop]
  have e : ((u : Int) + (i : Int)).toNat = u + i := by omega
  rw [e, getD_lt dd (by omega)]
theorem zw_zn20 {y : Th} (h : ZW y) : zn y ≤ if zk y = 1 then 64 else 20 := by
  rcases zcases h with ⟨v, rfl⟩ | ⟨a, rfl, z1⟩ | ⟨a, rfl, z1, z2, z3⟩ | ⟨a, rfl, z1, z2, z3, z4⟩
  · exact Nat.zero_le _
  · exact z1
  · exact z1
  · show (zl (zsp a)).length ≤ 20
    rw [zl_zsp]; exact z1
theorem i64_sub {x y : Int64} {p : Int} (h : x.toInt - y.toInt = p) (h1 : -2 ^ 62 ≤ p) (h2 : p < 2 ^ 62) : (x - y).toInt = p := by
  rw [Int64.toInt_sub, h]
  exact Int.bmod_eq_of_le (by omega) (by omega)
section CTk
variable {l : Launch} {E : EN} {w : CO} {d : Nat} {s : CS} {f : RH} {Q : KO → CS → RH → Prop}
theorem C_take (hst : l.stackTraces = false) {y : Th} {v : Value} {n0 u place : Int32} (hy : rcV E f n0 v y) (hZ : ZW y) (hroom : f.2.1 + 200 ≤ BM) (hcb : f.2.2.2 ≤ f.1) (hz : ez E ≤ f.1)
    (h3 : zk y = 0 → Q (.inr 9) (cwrong s 3 place) f) (h2 : ¬ zk y = 0 → (((if zk y = 1 then 64 else 20 : Int) < zneg u) ∨ (¬ ((if zk y = 1 then 64 else 20 : Int) < zneg u) ∧ zmk (zof (zk y) (zstr (zdf (zk y)) (ze y) (if u < 0 then (zn y : Int) + u.toInt else 0) (zneg u).toNat)) = .inl 2)) → ∀ f', Gw f f' 300 → Q (.inr 9) (cwrong s 2 place) f')
    (h1 : ¬ zk y = 0 → ¬ ((if zk y = 1 then 64 else 20 : Int) < zneg u) → ∀ t, zof (zk y) (zstr (zdf (zk y)) (ze y) (if u < 0 then (zn y : Int) + u.toInt else 0) (zneg u).toNat) = t → zmk t = .inr t → ZW t → ¬ zk t = 0 → ∀ p f', rcT f'.2.2.1 (ez E) f'.1 true t (fun _ => .ref p) → Gw f f' (2 * zm t) → Q (.inl (some (.ref p))) s f') : EvC l E w (d + 5) MX7_take [.ref (w.1 7), .int u, v, .int place] s f Q := by
  refine eX7_take hy.isR hst ⟨fun e => ?_, fun p e => ?_⟩
  · rcases hy.cls with ⟨e0, e1, e2⟩ | ⟨p, e1, e2, e3, e4, e5⟩
    · exact C_wrong hst (Q := Q) (h3 e0) (fun _ _ _ => rfl)
    · rw [e] at e1; cases e1
  rcases hy.cls with ⟨e0, e1, e2⟩ | ⟨p', e1, e2, e3, e4, hp⟩
  · rw [e] at e1; cases e1
  rw [e] at e1 hp
  cases e1
  have h2 := h2 e3
  have h1 := h1 e3
  obtain ⟨g1, g2⟩ := zneg_rng u
  have hn0 : u < 0 ↔ ¬ 0 ≤ u := by rw [Int32.not_le]
  have hzn := zw_zn20 hZ
  have inner : ∀ (y4 : Int64) (c : Int32) (C : Nat), y4.toInt = zneg u → c = nI C → (C : Int) = (if zk y = 1 then 64 else 20 : Int) → C ≤ 64 → (((lg_cmp y4 c.toInt64) ≤ 0 → ((0 ≤ u → (EvC l E w (d + 4) MX7_stretch [.ref (w.1 7), .ref p, .int 0, .int y4.toInt32, .int place] s f (fun o s6 f7 => KP o (fun r => ∃ a8 : Nat, r = some (.ref a8) ∧ Q (.inl (some (.ref a8))) s6 f7) (fun k => Q (.inr k) s6 f7)))) ∧ (¬ 0 ≤ u → (∃ P16 : KO → CS → RH → Prop, (∀ o s9 f10, P16 o s9 f10 → KP o (fun r => ∃ v11 : Int32, r = some (.int v11) ∧ (EvC l E w (d + 4) MX7_stretch [.ref (w.1 7), .ref p, .int (v11 + u), .int y4.toInt32, .int place] s9 f10 (fun o s6 f7 => KP o (fun r => ∃ a8 : Nat, r = some (.ref a8) ∧ Q (.inl (some (.ref a8))) s6 f7) (fun k => Q (.inr k) s6 f7)))) (fun k => Q (.inr k) s9 f10)) ∧ ∃ k15 : Nat, oc f p k15 ∧ ((k15 = 29 ∧ EvC l E w (d + 4) MX32_size [.ref p] s f P16) ∨ (k15 = 30 ∧ EvC l E w (d + 4) MX33_size [.ref p] s f P16) ∨ (k15 = 31 ∧ EvC l E w (d + 4) MX34_size [.ref p] s f P16) ∨ (k15 = 32 ∧ EvC l E w (d + 4) MX35_size [.ref p] s f P16)))))) ∧ (¬ (lg_cmp y4 c.toInt64) ≤ 0 → (EvC l E w (d + 4) MX3_wrong [.ref (w.1 3), .int 2, .int place] s f (fun o s1 f2 => KP o (fun r => r = some (.ref (w.1 9)) ∧ Q (.inr 9) s1 f2) (fun k => Q (.inr k) s1 f2))))) := by
    intro y4 c C hy4 hc hC hC64
    have hcmp : (lg_cmp y4 c.toInt64) ≤ 0 ↔ zneg u ≤ (C : Int) := by
      rw [lg_cmp_le, Int64.le_iff_toInt_le, hy4, i64_toInt, hc, nI_toInt (by omega)]
    refine ⟨fun k1 => ?_, fun k1 => C_wrong hst (Q := Q) (h2 (Or.inl (by rw [← hC]; have := mt hcmp.mpr k1; omega)) _ ((Gw.rf f).le)) (fun _ _ _ => rfl)⟩
    have hle := hcmp.mp k1
    have hK : ((zneg u).toNat : Int) = zneg u := by omega
    have ey : y4.toInt32 = nI (zneg u).toNat := by
      rw [lN_of (x := y4) (k := (zneg u).toNat) (by rw [hy4, hK]) (by omega), lN_i]
    rw [ey]
    have hlt : ¬ ((if zk y = 1 then 64 else 20 : Int) < zneg u) := by rw [← hC]; omega
    have hKb : (zneg u).toNat ≤ if zk y = 1 then 64 else 20 := by
      by_cases c1 : zk y = 1
      · rw [if_pos c1] at hC ⊢; omega
      · rw [if_neg c1] at hC ⊢; omega
    refine ⟨fun k2 => ?_, fun k2 => ?_⟩
    · have hF : (if u < 0 then (zn y : Int) + u.toInt else 0) = 0 := if_neg (by rw [hn0]; exact fun z => z k2)
      rw [hF] at h1 h2
      exact C_stretch hst (F := 0) hp e3 hZ rfl (by omega) hKb hroom hcb hz (fun t a1 a2 a3 a4 q f' b1 b2 => ⟨_, rfl, h1 hlt t a1 a2 a3 a4 q f' b1 b2⟩) (fun a1 f' b1 => h2 (Or.inr ⟨hlt, a1⟩) f' b1)
    · have hu0 := hn0.mpr k2
      have hF : (if u < 0 then (zn y : Int) + u.toInt else 0) = (zn y : Int) + u.toInt := if_pos hu0
      rw [hF] at h1 h2
      have hzu : zneg u = - u.toInt := if_pos hu0
      have h64 : zn y ≤ 64 := zw_zn hZ
      refine ⟨fun o s1 f2 => o = .inl (some (.int (nI (zn y)))) ∧ s1 = s ∧ f2 = f, ?_, C_size hst hp ⟨rfl, rfl, rfl⟩⟩
      rintro o s1 f2 ⟨rfl, rfl, rfl⟩
      refine ⟨_, rfl, ?_⟩
      exact C_stretch hst (F := (zn y : Int) + u.toInt) hp e3 hZ (i32_add (by rw [nI_toInt (by omega)]) (by omega) (by omega)) (by omega) hKb hroom hcb hz (fun t a1 a2 a3 a4 q f' b1 b2 => ⟨_, rfl, h1 hlt t a1 a2 a3 a4 q f' b1 b2⟩) (fun a1 f' b1 => h2 (Or.inr ⟨hlt, a1⟩) f' b1)
  have hcls : tg f p = some (.inl 29) ↔ zk y = 1 := by
    obtain ⟨p1, k1, q1, q2, q3⟩ := RT_cls hp
    cases q1
    rw [if_neg e3] at q3
    rw [(cellv q3).1]
    constructor
    · intro z
      have : 28 + zk y = 29 := by injection z with z; injection z
      omega
    · intro z
      rw [z]
  refine ⟨fun c y4 ey => ⟨hp.isT, fun c2 => inner y4 64 64 ?_ rfl ?_ (by omega), fun c2 => inner y4 20 20 ?_ rfl ?_ (by omega)⟩, fun c y4 ey => ⟨hp.isT, fun c2 => inner y4 64 64 ?_ rfl ?_ (by omega), fun c2 => inner y4 20 20 ?_ rfl ?_ (by omega)⟩⟩
  · rw [ey]; exact zneg_l.1 (by rw [hn0]; exact fun z => z c)
  · rw [if_pos (hcls.mp c2)]; rfl
  · rw [ey]; exact zneg_l.1 (by rw [hn0]; exact fun z => z c)
  · rw [if_neg (mt hcls.mpr c2)]; rfl
  · rw [ey]; exact zneg_l.2 (hn0.mpr c)
  · rw [if_pos (hcls.mp c2)]; rfl
  · rw [ey]; exact zneg_l.2 (hn0.mpr c)
  · rw [if_neg (mt hcls.mpr c2)]; rfl
theorem C_drop (hst : l.stackTraces = false) {y : Th} {v : Value} {n0 u place : Int32} (hy : rcV E f n0 v y) (hZ : ZW y) (hroom : f.2.1 + 200 ≤ BM) (hcb : f.2.2.2 ≤ f.1) (hz : ez E ≤ f.1)
    (h3 : zk y = 0 → Q (.inr 9) (cwrong s 3 place) f) (h2 : ¬ zk y = 0 → zmk (zof (zk y) (if u < 0 then (ze y).take ((zn y : Int) - zneg u).toNat else (ze y).drop (zneg u).toNat)) = .inl 2 → ∀ f', Gw f f' 300 → Q (.inr 9) (cwrong s 2 place) f')
    (h1 : ¬ zk y = 0 → ∀ t, zof (zk y) (if u < 0 then (ze y).take ((zn y : Int) - zneg u).toNat else (ze y).drop (zneg u).toNat) = t → zmk t = .inr t → ZW t → ¬ zk t = 0 → ∀ p f', rcT f'.2.2.1 (ez E) f'.1 true t (fun _ => .ref p) → Gw f f' (2 * zm t) → Q (.inl (some (.ref p))) s f') : EvC l E w (d + 5) MX7_drop [.ref (w.1 7), .int u, v, .int place] s f Q := by
  refine eX7_drop hy.isR hst ⟨fun e => ?_, fun p e => ?_⟩
  · rcases hy.cls with ⟨e0, e1, e2⟩ | ⟨p, e1, e2, e3, e4, e5⟩
    · exact C_wrong hst (Q := Q) (h3 e0) (fun _ _ _ => rfl)
    · rw [e] at e1; cases e1
  rcases hy.cls with ⟨e0, e1, e2⟩ | ⟨p', e1, e2, e3, e4, hp⟩
  · rw [e] at e1; cases e1
  rw [e] at e1 hp
  cases e1
  have h2 := h2 e3
  have h1 := h1 e3
  obtain ⟨g1, g2⟩ := zneg_rng u
  have hn0 : u < 0 ↔ ¬ 0 ≤ u := by rw [Int32.not_le]
  have hzn := zw_zn20 hZ
  have h64 : zn y ≤ 64 := zw_zn hZ
  have hze := zn_ze y
  refine ⟨fun o s1 f2 => o = .inl (some (.int (nI (zn y)))) ∧ s1 = s ∧ f2 = f, ?_, C_size hst hp ⟨rfl, rfl, rfl⟩⟩
  rintro o s1 f2 ⟨rfl, rfl, rfl⟩
  refine ⟨_, rfl, ?_⟩
  -- what is left, and from where
  have go : ∀ (yy : Int64) (fr : Int32) (F : Nat) (K : Nat), fr = nI F → F ≤ 64 → (if yy < 0 then 0 else yy).toInt32 = nI K → K ≤ zn y → iSt (zdf (zk y)) (ze y) F K = (if u < 0 then (ze y).take ((zn y : Int) - zneg u).toNat else (ze y).drop (zneg u).toNat) → EvC l E w (d + 4) MX7_stretch [.ref (w.1 7), .ref p, .int fr, .int (if yy < 0 then 0 else yy).toInt32, .int place] s1 f2 (fun o s6 f7 => KP o (fun r => ∃ a8 : Nat, r = some (.ref a8) ∧ Q (.inl (some (.ref a8))) s6 f7) (fun k => Q (.inr k) s6 f7)) := by
    intro yy fr F K hfr hF hK hKn hst9
    rw [hK]
    refine C_stretch hst (F := (F : Int)) hp e3 hZ (by rw [hfr, nI_toInt (by omega)]) (by omega) (Nat.le_trans hKn hzn) hroom hcb hz (fun t a1 a2 a3 a4 q f' b1 b2 => ⟨_, rfl, h1 t ?_ a2 a3 a4 q f' b1 b2⟩) (fun a1 f' b1 => h2 ?_ f' b1)
    · rw [← hst9]; exact a1
    · rw [← hst9]; exact a1
  have hl0 : (0 : Int64).toInt = 0 := rfl
  have neg0 : ∀ yy : Int64, yy.toInt ≤ 0 → (if yy < 0 then 0 else yy).toInt32 = nI 0 := fun yy h => by
    by_cases c : yy < 0
    · rw [if_pos c]; rfl
    · rw [if_neg c]
      have : yy.toInt = 0 := by
        have := mt (Int64.lt_iff_toInt_lt.mpr) c
        omega
      rw [lN_of (x := yy) (k := 0) this (by omega), lN_i]
  have pos : ∀ (yy : Int64) (K : Nat), yy.toInt = (K : Int) → K ≤ 64 → (if yy < 0 then 0 else yy).toInt32 = nI K := fun yy K h hk => by
    rw [if_neg (fun c => by have := Int64.lt_iff_toInt_lt.mp c; omega), lN_of (x := yy) (k := K) h (by omega), lN_i]
  have zro : (zn y : Int) - zneg u ≤ 0 → iSt (zdf (zk y)) (ze y) 0 0 = (if u < 0 then (ze y).take ((zn y : Int) - zneg u).toNat else (ze y).drop (zneg u).toNat) := fun h => by
    have e0 : iSt (zdf (zk y)) (ze y) 0 0 = [] := rfl
    rw [e0]
    by_cases c : u < 0
    · rw [if_pos c]
      have : ((zn y : Int) - zneg u).toNat = 0 := by omega
      rw [this, List.take_zero]
    · rw [if_neg c, List.drop_of_length_le (by omega)]
  have hsub : ∀ yy : Int64, yy.toInt = (zn y : Int) - zneg u → (lg_cmp yy 0 ≤ 0 ↔ (zn y : Int) - zneg u ≤ 0) := fun yy h => by
    rw [lg_cmp_le, Int64.le_iff_toInt_le, h, hl0]
  have ynz : (nI (zn y)).toInt64.toInt = (zn y : Int) := by rw [i64_toInt, nI_toInt (by omega)]
  refine ⟨fun c yy ey => ?_, fun c yy ey => ?_⟩
  · have hnu : ¬ u < 0 := by rw [hn0]; exact fun z => z c
    have hyy : yy.toInt = (zn y : Int) - zneg u := by
      rw [ey]
      exact i64_sub (by rw [ynz, zneg_l.1 hnu]) (by omega) (by omega)
    refine ⟨fun k1 => go yy 0 0 0 rfl (by omega) (neg0 yy (by have := (hsub yy hyy).mp k1; omega)) (by omega) (zro ((hsub yy hyy).mp k1)), fun k1 => ⟨fun _ => ?_, fun z => absurd c z⟩⟩
    have hpos := mt (hsub yy hyy).mpr k1
    have hzu : zneg u = u.toInt := if_neg hnu
    have hun := i32_nat hnu
    refine go yy u u.toNatClampNeg (zn y - u.toNatClampNeg) hun.2 (by omega) (pos yy _ (by omega) (by omega)) (by omega) ?_
    rw [if_neg hnu, hze, iSt_drop _ _ _ (by omega)]
    congr 1
    omega
  · have hnu := hn0.mpr c
    have hyy : yy.toInt = (zn y : Int) - zneg u := by
      rw [ey]
      exact i64_sub (by rw [ynz, zneg_l.2 hnu]) (by omega) (by omega)
    refine ⟨fun k1 => go yy 0 0 0 rfl (by omega) (neg0 yy (by have := (hsub yy hyy).mp k1; omega)) (by omega) (zro ((hsub yy hyy).mp k1)), fun k1 => ⟨fun z => absurd z c, fun _ => ?_⟩⟩
    have hpos := mt (hsub yy hyy).mpr k1
    refine go yy 0 0 ((zn y : Int) - zneg u).toNat rfl (by omega) (pos yy _ (by omega) (by omega)) (by omega) ?_
    rw [if_pos hnu]
    exact iSt_take _ _ _ (by omega)
theorem C_b20 (hst : l.stackTraces = false) {n md : Nat} {x y : Th} {place : Int32} (h : COk E n md [x, y] s f) (hQ : ∀ o s' f', cop E n md (zbi2 20 x y) place s f o s' f' → Q o s' f') : EvC l E w (d + 6) MX7_ofTwo [.ref (w.1 7), .int 20, .int place] s f Q := by
  obtain ⟨hx, hy, wx, wy, h26, h83⟩ := h.v2
  obtain ⟨⟨-, -, h40, hmd⟩, ⟨hr, hz, hcb⟩, -, -⟩ := h
  have hz1 : ez E ≤ f.1 := Nat.le_trans hz hcb
  refine EvC.pfrz (eX7_ofTwo hst fun y1 ey => ?_)
  rw [h26, nI_s2] at ey
  subst ey
  rw [nI_1, nI_clamp (n := n) (by omega), nI_clamp (n := n + 1) (by omega)]
  refine ⟨inB_n (by omega), _, rfl, hx.isR, inB_n (by omega), _, rfl, hy.isR, br_f (by decide) (br_t rfl ?_)⟩
  have hb := zbi2_20 x y
  refine C_asInt hst (by omega) hx (fun c => ⟨_, rfl, ?_⟩) (fun c => hQ _ _ _ (cop.tr (k := 3) (hb.trans (if_pos (Or.inl c))) rfl h40 (by omega)))
  refine C_take hst hy wy (by omega) hcb hz1 (fun c2 => hQ _ _ _ (cop.tr (k := 3) (hb.trans (if_pos (Or.inr c2))) rfl h40 (by omega))) (fun c2 c3 f' g' => hQ _ _ _ (cop.tr (k := 2) (hb.trans ?_) rfl h40 (by have := g'.2.2.1; omega))) (fun c2 c3 t a1 a2 a3 a4 q f' b1 b2 => ⟨_, rfl, ?_⟩)
  · rw [if_neg (by rintro (z | z); exact z c; exact c2 z)]
    rcases c3 with c3 | ⟨c3, c4⟩
    · rw [if_pos c3]
    · rw [if_neg c3, c4]
  · rw [if_neg (by rintro (z | z); exact z c; exact c2 z), if_neg c3, a1, a2] at hb
    exact C_fin hst (parts := 2) (f0 := f) hb (cfr.rf JC n s) b2.2.2.1 b1 a4 a3 h26 (by omega) h40 hmd (Nat.le_refl _) hQ
theorem C_b21 (hst : l.stackTraces = false) {n md : Nat} {x y : Th} {place : Int32} (h : COk E n md [x, y] s f) (hQ : ∀ o s' f', cop E n md (zbi2 21 x y) place s f o s' f' → Q o s' f') : EvC l E w (d + 6) MX7_ofTwo [.ref (w.1 7), .int 21, .int place] s f Q := by
  obtain ⟨hx, hy, wx, wy, h26, h83⟩ := h.v2
  obtain ⟨⟨-, -, h40, hmd⟩, ⟨hr, hz, hcb⟩, -, -⟩ := h
  have hz1 : ez E ≤ f.1 := Nat.le_trans hz hcb
  refine EvC.pfrz (eX7_ofTwo hst fun y1 ey => ?_)
  rw [h26, nI_s2] at ey
  subst ey
  rw [nI_1, nI_clamp (n := n) (by omega), nI_clamp (n := n + 1) (by omega)]
  refine ⟨inB_n (by omega), _, rfl, hx.isR, inB_n (by omega), _, rfl, hy.isR, br_f (by decide) (br_f (by decide) (br_t rfl ?_))⟩
  have hb := zbi2_21 x y
  refine C_asInt hst (by omega) hx (fun c => ⟨_, rfl, ?_⟩) (fun c => hQ _ _ _ (cop.tr (k := 3) (hb.trans (if_pos (Or.inl c))) rfl h40 (by omega)))
  refine C_drop hst hy wy (by omega) hcb hz1 (fun c2 => hQ _ _ _ (cop.tr (k := 3) (hb.trans (if_pos (Or.inr c2))) rfl h40 (by omega))) (fun c2 c3 f' g' => hQ _ _ _ (cop.tr (k := 2) (hb.trans ?_) rfl h40 (by have := g'.2.2.1; omega))) (fun c2 t a1 a2 a3 a4 q f' b1 b2 => ⟨_, rfl, ?_⟩)
  · rw [if_neg (by rintro (z | z); exact z c; exact c2 z), c3]
  · rw [if_neg (by rintro (z | z); exact z c; exact c2 z), a1, a2] at hb
    exact C_fin hst (parts := 2) (f0 := f) hb (cfr.rf JC n s) b2.2.2.1 b1 a4 a3 h26 (by omega) h40 hmd (Nat.le_refl _) hQ
end CTk
