/-! THE COMPONENT: find, pick, cut -/
section CTw
variable {l : Launch} {E : EN} {w : CO} {d : Nat} {s : CS} {f : RH} {Q : KO → CS → RH → Prop}
theorem C_placeOf (hst : l.stackTraces = false) {z b q : Nat} {a : List Int32} {v : Int32} (ha : rcI f.2.2.1 z b (.ref q) a) (hl : a.length ≤ 64) (hQ : Q (.inl (some (.int (zfind a v)))) s f) : EvC l E w d MX7_placeOf [.ref q, .int v] s f Q := by
  obtain ⟨q', v1, v2, v3, v4, v5⟩ := ha.vw
  cases v1
  refine eX7_placeOf hst ?_
  refine dn (P := fun k => (∀ j, j < k → a.getD j 0 ≠ v) → ExC l E w d MX7_placeOf 2 [some (.ref q), some (.int v), some (.int (nI k))] [] s f Q) a.length ?_ (fun k hk ih => ?_) (fun j hj => absurd hj (Nat.not_lt_zero j))
  · intro hno
    rw [zfind_no hno] at hQ
    refine vX7_placeOf_2 ⟨0, v3, ?_⟩
    rw [v4]
    refine pk_le a.length a.length (fun _ => ⟨0, v3, pk_le a.length a.length (fun _ => hQ) (fun c => by omega) rfl rfl⟩) (fun c => by omega) rfl rfl
  · intro hno
    refine vX7_placeOf_2 ⟨0, v3, ?_⟩
    rw [v4, nI_clamp (by omega)]
    refine pk_le a.length k (fun c => by omega) (fun _ => ⟨v3, inB_n hk, _, v5 k hk, fun c => ⟨0, v3, pk_le a.length k (fun c => by omega) (fun _ => ?_) rfl rfl⟩, fun c => ?_⟩) rfl rfl
    · rw [zfind_at hk c hno] at hQ
      exact hQ
    · rw [nI_1]
      refine ih (fun j hj => ?_)
      by_cases e : j = k
      · rw [e]; exact c
      · exact hno j (by omega)
theorem C_b24 (hst : l.stackTraces = false) {n md : Nat} {x y : Th} {place : Int32} (h : COk E n md [x, y] s f) (hQ : ∀ o s' f', cop E n md (zbi2 24 x y) place s f o s' f' → Q o s' f') : EvC l E w (d + 4) MX7_ofTwo [.ref (w.1 7), .int 24, .int place] s f Q := by
  obtain ⟨hx, hy, wx, wy, h26, h83⟩ := h.v2
  obtain ⟨⟨-, -, h40, hmd⟩, ⟨hr, hz, hcb⟩, -, -⟩ := h
  have hz1 : ez E ≤ f.1 := Nat.le_trans hz hcb
  refine EvC.pfrz (eX7_ofTwo hst fun y1 ey => ?_)
  rw [h26, nI_s2] at ey
  subst ey
  rw [nI_1, nI_clamp (n := n) (by omega), nI_clamp (n := n + 1) (by omega)]
  refine ⟨inB_n (by omega), _, rfl, hx.isR, inB_n (by omega), _, rfl, hy.isR, br_f (by decide) (br_f (by decide) (br_f (by decide) (br_f (by decide) (br_f (by decide) (br_t rfl ?_)))))⟩
  have hb := zbi2_24 x y
  refine C_asRow hst (Gw.rf f) hcb (by omega) hx (fun c p hp => ⟨p, rfl, ?_⟩) (fun c => hQ _ _ _ (cop.tr (k := 3) (hb.trans (if_pos (Or.inl c))) rfl h40 (by omega)))
  have wx' := wx
  rw [zk1 c] at wx'
  have wl : (zr x).length ≤ 64 := wx'
  obtain ⟨p', q, v1, v2, v3, v4, v5, v6, v7, v8, v9⟩ := rcT.row hp
  cases v1
  refine ⟨v3, q, v4, eX7_find hy.isR hst fun y1 ey => ?_⟩
  rw [h26, show nI (n + 2) - 1 = nI (n + 1) from nI_pred (n + 1)] at ey
  subst ey
  rw [nI_clamp (by omega)]
  refine ⟨fun e => ⟨inB_n (by omega), ?_⟩, fun a2 e => ?_⟩
  · rcases hy.cls with ⟨e0, e1, e2⟩ | ⟨p2, e1, e2, e3, e4, e5⟩
    · rw [e2]
      refine C_placeOf hst v9 wl ⟨_, rfl, ?_⟩
      exact C_finIG hst (parts := 2) (hb.trans (by rw [if_neg (by omega), if_pos e0])) (cfr.rf JC n s) (Nat.le_refl _) h26 (by omega) h40 (fun s' q => ⟨rfl, rfl, hQ _ _ _ q⟩)
    · rw [e] at e1; cases e1
  · rcases hy.cls with ⟨e0, e1, e2⟩ | ⟨p2, e1, e2, e3, e4, e5⟩
    · rw [e1] at e; cases e
    refine C_asRow hst (Gw.rf f) hcb (by omega) hy (fun c2 p3 hp3 => ⟨p3, rfl, ?_⟩) (fun c2 => hQ _ _ _ (cop.tr (k := 3) (hb.trans (if_pos (Or.inr (by rcases zk_c y with z | z | z | z <;> omega)))) rfl h40 (by omega)))
    have wy' := wy
    rw [zk1 c2] at wy'
    have wl2 : (zr y).length ≤ 64 := wy'
    obtain ⟨p4, q2, u1, u2, u3, u4, u5, u6, u7, u8, u9⟩ := rcT.row hp3
    cases u1
    have hq2 : q2 < f.1 := Nat.lt_of_lt_of_le u5.2 hcb
    have hml : ((zr y).map (zfind (zr x))).length = (zr y).length := List.length_map ..
    refine ⟨u3, q2, u4, 0, u6, ?_⟩
    rw [u7, nI_clamp (by omega)]
    refine ⟨i32_nn _ (by omega), by omega, (by show f.2.1 + 1 + (zr y).length ≤ BM; omega), fun a13 f14 e1 e2 => ?_⟩
    subst e1 e2
    rw [fnewA0]
    refine dn (P := fun k => ExC l E w (d + 3) MX7_find 63 [some (.ref (w.1 7)), some (.ref q), none, some (.int place), none, some (.ref q2), some (.ref f.1), some (.int (nI k))] [] s (fA f (zr y).length (((zr y).map (zfind (zr x))).take k)) _) (zr y).length ?_ (fun k hk ih => ?_)
    · rw [List.take_of_length_le (by omega)]
      refine vX7_find_63 ⟨0, (fA_tg f _ _).1, ?_⟩
      rw [(fA_tg f _ _).2.1]
      refine pk_le (zr y).length (zr y).length (fun _ => ?_) (fun c => by omega) rfl rfl
      have g := fA_gw f (zr y).length ((zr y).map (zfind (zr x)))
      refine C_newRow hst (fA_rI f (zr y).length _ hz1 hml) (by have := g.2.2.1; omega) (Nat.le_succ_of_le hcb) (fun f' q1 q2 => ?_)
      have hw : ZW (zR ((zr y).map (zfind (zr x)))) := by show ((zr y).map _).length ≤ 64; rw [hml]; exact wl2
      refine C_finG hst (parts := 2) (f0 := f) (hb.trans (by rw [if_neg (by omega), if_neg (by omega)])) (cfr.rf JC n s) (g.trans q2).2.2.1 q1 (by show ¬ 1 = 0; decide) hw h26 (by omega) h40 hmd (by show _ ≤ 2 * (4 + ((zr y).map _).length); rw [hml]; omega) ?_
      rintro o s' (rfl | rfl) q
      · exact hQ _ _ _ q
      · exact ⟨rfl, rfl, hQ _ _ _ q⟩
    · have g := fA_gw f (zr y).length (((zr y).map (zfind (zr x))).take k)
      have hll : (((zr y).map (zfind (zr x))).take k).length = k := by rw [List.length_take]; omega
      refine vX7_find_63 ⟨0, (fA_tg f _ _).1, ?_⟩
      rw [(fA_tg f _ _).2.1, nI_clamp (by omega), g.lnE hq2, u7]
      refine pk_le (zr y).length k (fun c => by omega) (fun _ => ⟨(g.tgE hq2).trans u6, inB_n hk, _, by rw [g.vlE hq2]; exact u8 k hk, C_placeOf hst (g.rI hcb v9) wl ⟨_, rfl, (fA_tg f _ _).1, by rw [(fA_tg f _ _).2.1]; exact inB_n hk, hcb, fun f26 e => ?_⟩⟩) rfl rfl
      have := fA_snoc f (zr y).length (((zr y).map (zfind (zr x))).take k) (zfind (zr x) ((zr y).getD k 0))
      have e2 := take_succ_getD ((zr y).map (zfind (zr x))) 0 k (by omega)
      rw [getD_map (zfind (zr x)) (zr y) 0 0 hk] at e2
      rw [hll, ← e2] at this
      rw [e, this, nI_1]
      exact ih
/-- the places where a row is not 0 -/
def zpl : Nat → List Int32 → List Int32
  | _, [] => []
  | k, b :: r => if b = 0 then zpl (k + 1) r else nI k :: zpl (k + 1) r
theorem zpl_snoc (v : Int32) : ∀ (a : List Int32) (k : Nat), zpl k (a ++ [v]) = zpl k a ++ (if v = 0 then [] else [nI (k + a.length)])
  | [], k => by
    show (if v = 0 then zpl (k + 1) [] else nI k :: zpl (k + 1) []) = _
    by_cases h : v = 0
    · rw [if_pos h, if_pos h]; rfl
    · rw [if_neg h, if_neg h]; rfl
  | b :: r, k => by
    show (if b = 0 then zpl (k + 1) (r ++ [v]) else nI k :: zpl (k + 1) (r ++ [v])) = (if b = 0 then zpl (k + 1) r else nI k :: zpl (k + 1) r) ++ _
    rw [zpl_snoc v r (k + 1), List.length_cons, show k + 1 + r.length = k + (r.length + 1) by omega]
    by_cases h : b = 0
    · rw [if_pos h, if_pos h]
    · rw [if_neg h, if_neg h]; rfl
theorem zpl_len (a : List Int32) (k : Nat) : (zpl k a).length ≤ a.length := by
  induction a generalizing k with
  | nil => exact Nat.le_refl 0
  | cons b r ih =>
    have := ih (k + 1)
    show (if b = 0 then zpl (k + 1) r else nI k :: zpl (k + 1) r).length ≤ r.length + 1
    split
    · omega
    · rw [List.length_cons]; omega
theorem zpl_mem : ∀ (a : List Int32) (k : Nat) (v : Int32), v ∈ zpl k a → ∃ j, k ≤ j ∧ j < k + a.length ∧ v = nI j
  | b :: r, k, v, h => by
    have h : v ∈ (if b = 0 then zpl (k + 1) r else nI k :: zpl (k + 1) r) := h
    rw [List.length_cons]
    split at h
    · obtain ⟨j, h1, h2, h3⟩ := zpl_mem r (k + 1) v h
      exact ⟨j, by omega, by omega, h3⟩
    · rcases List.mem_cons.mp h with h | h
      · exact ⟨k, Nat.le_refl k, by omega, h⟩
      · obtain ⟨j, h1, h2, h3⟩ := zpl_mem r (k + 1) v h
        exact ⟨j, by omega, by omega, h3⟩
theorem zpl_take_le (a : List Int32) (k : Nat) : (zpl 0 (a.take k)).length ≤ (zpl 0 a).length := by
  have key : ∀ (p q : List Int32) (i : Nat), (zpl i p).length ≤ (zpl i (p ++ q)).length := by
    intro p
    induction p with
    | nil => intro q i; exact Nat.zero_le _
    | cons b r ih =>
      intro q i
      show (if b = 0 then zpl (i + 1) r else nI i :: zpl (i + 1) r).length ≤ (if b = 0 then zpl (i + 1) (r ++ q) else nI i :: zpl (i + 1) (r ++ q)).length
      by_cases h : b = 0
      · rw [if_pos h, if_pos h]; exact ih q (i + 1)
      · rw [if_neg h, if_neg h, List.length_cons, List.length_cons]; exact Nat.succ_le_succ (ih q (i + 1))
  have := key (a.take k) (a.drop k) 0
  rw [List.take_append_drop] at this
  exact this
theorem zpick_pl (x : Th) : ∀ (L : List Th) (a : List Int32) (k : Nat), k + a.length < 2 ^ 31 → (∀ j, j < L.length → zel x (k + j) = L.getD j (zI 0)) → L.length = a.length → zpick L a = ((zpl k a).map Int32.toNatClampNeg).map (zel x)
  | [], [], _, _, _, _ => rfl
  | [], b :: q, _, _, _, hl => by simp at hl
  | t :: r, [], _, _, _, hl => by simp at hl
  | t :: r, b :: q, k, hb, hL, hl => by
    rw [List.length_cons] at hb
    have ih := zpick_pl x r q (k + 1) (by omega) (fun j hj => by
      have := hL (j + 1) (by rw [List.length_cons]; omega)
      rw [show k + (j + 1) = k + 1 + j by omega] at this
      rw [this]; rfl) (by rw [List.length_cons, List.length_cons] at hl; omega)
    show (if b = 0 then zpick r q else t :: zpick r q) = (((if b = 0 then zpl (k + 1) q else nI k :: zpl (k + 1) q)).map Int32.toNatClampNeg).map (zel x)
    by_cases h : b = 0
    · rw [if_pos h, if_pos h]; exact ih
    · rw [if_neg h, if_neg h, List.map_cons, List.map_cons, ih, nI_clamp (by omega)]
      have := hL 0 (Nat.succ_pos _)
      rw [Nat.add_zero] at this
      rw [this]; rfl
theorem C_b23 (hst : l.stackTraces = false) {n md : Nat} {x y : Th} {place : Int32} (h : COk E n md [x, y] s f) (hQ : ∀ o s' f', cop E n md (zbi2 23 x y) place s f o s' f' → Q o s' f') : EvC l E w (d + 6) MX7_ofTwo [.ref (w.1 7), .int 23, .int place] s f Q := by
  obtain ⟨hx, hy, wx, wy, h26, h83⟩ := h.v2
  obtain ⟨⟨-, -, h40, hmd⟩, ⟨hr, hz, hcb⟩, -, -⟩ := h
  have hz1 : ez E ≤ f.1 := Nat.le_trans hz hcb
  refine EvC.pfrz (eX7_ofTwo hst fun y1 ey => ?_)
  rw [h26, nI_s2] at ey
  subst ey
  rw [nI_1, nI_clamp (n := n) (by omega), nI_clamp (n := n + 1) (by omega)]
  refine ⟨inB_n (by omega), _, rfl, hx.isR, inB_n (by omega), _, rfl, hy.isR, br_f (by decide) (br_f (by decide) (br_f (by decide) (br_f (by decide) (br_t rfl ?_))))⟩
  have hb := zbi2_23 x y
  refine eX7_pick hx.isR hst ?_
  refine C_asRow hst (Gw.rf f) hcb (by omega) hy (fun c p hp => ⟨p, rfl, ?_⟩) (fun c => hQ _ _ _ (cop.tr (k := 3) (hb.trans (if_pos (Or.inr c))) rfl h40 (by omega)))
  have wy' := wy
  rw [zk1 c] at wy'
  have wl : (zr y).length ≤ 64 := wy'
  obtain ⟨p', q, v1, v2, v3, v4, v5, v6, v7, v8, v9⟩ := rcT.row hp
  cases v1
  have hq1 : q < f.1 := Nat.lt_of_lt_of_le v5.2 hcb
  refine ⟨v3, q, v4, fun e => ?_, fun a5 e => ?_⟩
  · rcases hx.cls with ⟨e0, e1, e2⟩ | ⟨p2, e1, e2, e3, e4, e5⟩
    · exact C_wrong hst (Q := fun o s4 f5 => KP o (fun r => ∃ a6 : Nat, r = some (.ref a6) ∧ EvC l E w (d + 5) MX3_give_2 [.ref (w.1 3), .ref a6, .int 2, .int place] s4 f5 (fun o s1 f2 => KP o (fun r => r = none ∧ Q (.inl none) s1 (frz f2)) (fun k => Q (.inr k) s1 (frz f2)))) (fun k => Q (.inr k) s4 (frz f5))) (hQ _ _ _ (cop.tr (k := 3) (hb.trans (if_pos (Or.inl e0))) rfl h40 (by omega))) (fun _ _ _ => rfl)
    · rw [e] at e1; cases e1
  rcases hx.cls with ⟨e0, e1, e2⟩ | ⟨p2, e1, e2, e3, e4, e5⟩
  · rw [e1] at e; cases e
  rw [e] at e1 e5
  cases e1
  have hzn := zw_zn wx
  rw [if_neg (show ¬ (zk x = 0 ∨ zk y ≠ 1) by omega)] at hb
  refine ⟨0, v6, fun o s1 f2 => o = .inl (some (.int (nI (zn x)))) ∧ s1 = s ∧ f2 = f, ?_, C_size hst e5 ⟨rfl, rfl, rfl⟩⟩
  rintro o s1 f2 ⟨rfl, rfl, rfl⟩
  refine ⟨_, rfl, ?_⟩
  rw [v7]
  refine pk_eq (zr y).length (zn x) (fun ce => ?_) (fun ce => ?_) rfl rfl
  · have hb2 := hb
    rw [if_neg (show ¬ zn x ≠ (zr y).length from fun z => z ce.symm)] at hb2
    have hpl := zpick_pl x (ze x) (zr y) 0 (by omega) (fun j hj => by rw [Nat.zero_add]; rfl) (by rw [← zn_ze]; exact ce.symm)
    rw [hpl] at hb2
    have hinB : ∀ v ∈ zpl 0 (zr y), inB v (zn x) := fun v hv => by
      obtain ⟨j, h1, h2, rfl⟩ := zpl_mem _ _ _ hv
      exact inB_n (by omega)
    have hlen := zpl_len (zr y) 0
    refine dn (P := fun k => ExC l E w (d + 5) MX7_pick 54 [some (.ref (w.1 7)), some (.ref a5), none, some (.int place), some (.ref q), some (.int (nI (zpl 0 ((zr y).take k)).length)), some (.int (nI k)), none] [] s1 f2 _) (zr y).length ?_ (fun k hk ih => ?_)
    · rw [List.take_length]
      refine vX7_pick_54 ⟨0, v6, ?_⟩
      rw [v7, nI_clamp (by omega)]
      refine pk_le (zr y).length (zr y).length (fun _ => ⟨i32_nn _ (by omega), by omega, (by show f2.2.1 + 1 + (zpl 0 (zr y)).length ≤ BM; omega), fun a17 f18 e1 e2 => ?_⟩) (fun c => by omega) rfl rfl
      subst e1 e2
      rw [fnewA0]
      generalize hN : (zpl 0 (zr y)).length = N at *
      refine dn (P := fun k => ExC l E w (d + 5) MX7_pick 98 [some (.ref (w.1 7)), some (.ref a5), none, some (.int place), some (.ref q), some (.int (nI (zpl 0 ((zr y).take k)).length)), some (.ref f2.1), some (.int (nI k))] [] s1 (fA f2 N (zpl 0 ((zr y).take k))) _) (zr y).length ?_ (fun k hk ih => ?_)
      · rw [List.take_length]
        have g := fA_gw f2 N (zpl 0 (zr y))
        have hbud := g.2.2.1
        refine vX7_pick_98 ⟨0, (g.tgE hq1).trans v6, ?_⟩
        rw [g.lnE hq1, v7]
        refine pk_le (zr y).length (zr y).length (fun _ => ?_) (fun c => by omega) rfl rfl
        have hzx := zixs_some hinB
        refine C_some hst (x := x) (L := zpl 0 (zr y)) ?_ e3 wx (fA_rI f2 N _ hz1 hN) (by omega) (by omega) (Nat.le_succ_of_le hcb) hz (fun h0 => by rw [hzx] at h0; cases h0) (fun t hk1 hk2 hk3 hw hk4 hzn2 p f' q1 q2 => ⟨p, rfl, p, rfl, ?_⟩) (fun hk1 hk2 f' g3 => ?_)
        · show rcT (fA f2 N (zpl 0 (zr y))).2.2.1 (ez E) f2.2.2.2 true x _
          exact g.rT hcb e5
        · rw [hk2, hk3] at hb2
          have hzl : N + 4 ≤ zm t ∨ (zk t = 2 ∧ 4 + 4 * N ≤ zm t) := by
            rcases zcases hw with ⟨v, rfl⟩ | ⟨a, rfl, z1⟩ | ⟨a, rfl, z1, z2, z3⟩ | ⟨a, rfl, z1, z2, z3, z4⟩
            · exact absurd rfl hk4
            · have hzn2 : a.length = (zpl 0 (zr y)).length := hzn2
              left; show _ ≤ 4 + a.length; omega
            · have hzn2 : a.length = (zpl 0 (zr y)).length := hzn2
              right; exact ⟨rfl, by show _ ≤ 4 + 4 * a.length + zis a; omega⟩
            · have hzn2 : (zl (zsp a)).length = (zpl 0 (zr y)).length := hzn2
              left; show _ ≤ 4 + 2 * (zl (zsp a)).length; omega
          exact C_fin hst (parts := 2) (f0 := f2) (c := N + 1 + (zm t + 1)) hb2 (cfr.rf JC n s1) (by have := q2.2.2.1; omega) q1 hk4 hw h26 (by omega) h40 hmd (by omega) hQ
        · refine hQ _ _ _ (cop.tr (k := 2) (hb2.trans hk2) rfl h40 ?_)
          have := g3.2.2.1
          omega
      · have g := fA_gw f2 N (zpl 0 ((zr y).take k))
        have hsn := zpl_snoc ((zr y).getD k 0) ((zr y).take k) 0
        rw [← take_succ_getD (zr y) 0 k hk, Nat.zero_add, show ((zr y).take k).length = k by rw [List.length_take]; omega] at hsn
        have hle := zpl_take_le (zr y) (k + 1)
        refine vX7_pick_98 ⟨0, (g.tgE hq1).trans v6, ?_⟩
        rw [g.lnE hq1, v7, nI_clamp (n := k) (by omega)]
        refine pk_le (zr y).length k (fun c => by omega) (fun _ => ⟨(g.tgE hq1).trans v6, inB_n hk, _, by rw [g.vlE hq1]; exact v8 k hk, fun c0 => ?_, fun c0 => ?_⟩) rfl rfl
        · rw [if_neg c0] at hsn
          have hl2 : (zpl 0 ((zr y).take (k + 1))).length = (zpl 0 ((zr y).take k)).length + 1 := by rw [hsn, List.length_append]; rfl
          refine ⟨(fA_tg f2 _ _).1, by rw [(fA_tg f2 _ _).2.1]; exact inB_n (by omega), hcb, fun f27 e27 => ?_⟩
          rw [nI_clamp (by omega), fA_snoc, ← hsn] at e27
          rw [e27, nI_1, nI_1, ← hl2]
          exact ih
        · rw [if_pos c0, List.append_nil] at hsn
          rw [nI_1]
          rw [hsn] at ih
          exact ih
    · have hsn := zpl_snoc ((zr y).getD k 0) ((zr y).take k) 0
      rw [← take_succ_getD (zr y) 0 k hk, Nat.zero_add, show ((zr y).take k).length = k by rw [List.length_take]; omega] at hsn
      refine vX7_pick_54 ⟨0, v6, ?_⟩
      rw [v7, nI_clamp (n := k) (by omega)]
      refine pk_le (zr y).length k (fun c => by omega) (fun _ => ⟨v6, inB_n hk, _, v8 k hk, fun c0 y20 e20 => ?_, fun c0 y21 e21 => ?_⟩) rfl rfl
      · rw [if_pos c0, List.append_nil] at hsn
        rw [e20, Int32.add_zero, nI_1]
        rw [hsn] at ih
        exact ih
      · rw [if_neg c0] at hsn
        have hl2 : (zpl 0 ((zr y).take (k + 1))).length = (zpl 0 ((zr y).take k)).length + 1 := by rw [hsn, List.length_append]; rfl
        rw [e21, nI_1, nI_1, ← hl2]
        exact ih
  · exact C_wrong hst (Q := fun o s4 f5 => KP o (fun r => ∃ a6 : Nat, r = some (.ref a6) ∧ EvC l E w (d + 5) MX3_give_2 [.ref (w.1 3), .ref a6, .int 2, .int place] s4 f5 (fun o s1 f2 => KP o (fun r => r = none ∧ Q (.inl none) s1 (frz f2)) (fun k => Q (.inr k) s1 (frz f2)))) (fun k => Q (.inr k) s4 (frz f5))) (hQ _ _ _ (cop.tr (k := 4) (hb.trans (if_pos (fun z => ce z.symm))) rfl h40 (by omega))) (fun _ _ _ => rfl)
end CTw
