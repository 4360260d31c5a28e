/-! THE COMPONENT'S TREES: an item of what is gone over; the rounds; what lies highest comes down; troubles -/
section CIt
variable {l : Launch} {E : EN} {w : CO} {d : Nat} {s s' s0 : CS} {f f' f0 : RH} {Q : KO → CS → RH → Prop} {fuel : Nat} {Bb : Nat × Nat} {P : Pg} {C pl A : List Th} {fr fr' : List Fm} {N : List Nat} {wy : List Wy} {sh sh' : Nat → Option Th} {ct ct1 : Ct} {out out1 : List Int32} {a t h L : Nat} {place : Int32}
theorem C_pushT (hst : l.stackTraces = false) {b p n : Nat} {t : Th} (h : rcT f.2.2.1 (ez E) b true t (fun _ => .ref p)) (hn : s.1 26 = nI n) (h8 : n < 8400) (hQ : ∀ k x, (zk t = 0 → x = .null ∧ k = zv t) → (¬ zk t = 0 → x = .ref p) → Q (.inl none) (cpsh s n k x) f) : EvC l E w d MX3_push_2 [.ref (w.1 3), .ref p] s f Q := by
  have hT := rcT.isT h
  refine eX3_push_2 hst ?_
  rw [hn, nI_clamp (by omega), nI_1]
  by_cases hk : zk t = 0
  · have h' := h
    rw [zk0 hk] at h'
    obtain ⟨p', e1, e2, e3, e4⟩ := rcT.whole h'
    cases e1
    exact ⟨hT, fun _ => ⟨e3.1, e3, zv t, e4, inB_n h8, hT, fun _ => ⟨inB_n h8, Or.inl rfl, hQ _ _ (fun _ => ⟨rfl, rfl⟩) (fun z => absurd hk z)⟩, fun z => absurd e3.1 z⟩, fun z => absurd e3.1 z⟩
  · obtain ⟨p', e1, e2, e3⟩ := rcT.ocl h
    cases e1
    rw [if_neg hk] at e3
    have n32 : ¬ tg f p = some (.inl 32) := by
      rw [e3.1]
      rcases zk_c t with e | e | e | e
      · exact absurd e hk
      all_goals
        rw [e]; intro z; cases z
    exact ⟨hT, fun z => absurd z n32, fun _ => ⟨inB_n h8, hT, fun z => absurd z n32, fun _ => ⟨inB_n h8, hT, hQ _ _ (fun z => absurd z hk) (fun _ => rfl)⟩⟩⟩
theorem cR.fz (h : cR E f0 s0 fuel Bb C fr N sh ct out s f) (hF : Frz f f') (hcb : ez E ≤ f'.2.2.2 ∧ f'.2.2.2 ≤ f'.1) (hb : f'.2.1 ≤ f.2.1) : cR E f0 s0 fuel Bb C fr N sh ct out s f' := by
  obtain ⟨hB, g1, g2, g3, g4, g5⟩ := h
  have e : C = C ++ [] := (List.append_nil C).symm
  have hB' := hB
  rw [e] at hB'
  exact ⟨hB'.ord (md := ct.2.1) hF hcb (cfr.rf JC C.length s) hB.2.2.2.1.2.2.2.1 (Nat.le_refl _), g1, g2, g3, by omega, g5⟩
theorem cR.pushT {v : Th} {p : Nat} (h : cR E f0 s0 fuel Bb C fr N sh ct out s f) (hl : C.length + 1 ≤ 8380) (hv : RT E f (.ref p) v) (hw : ZW v) {k : Int32} {x : Value} (h0 : zk v = 0 → x = .null ∧ k = zv v) (h1 : ¬ zk v = 0 → x = .ref p) : cR E f0 s0 fuel Bb (C ++ [v]) fr N sh ct out (cpsh s C.length k x) f := by
  refine h.push hl (cpsh_fr JC s _ _ (Nat.le_refl _)) rfl rfl (by rw [cpsh_n, if_pos rfl]) (by rw [cpsh_t, if_pos rfl]) ?_ hw
  by_cases hk : zk v = 0
  · obtain ⟨e1, e2⟩ := h0 hk
    rw [e1, e2, zk0 hk]
    exact ⟨rfl, rfl⟩
  · rw [h1 hk]
    exact (rcV_thing hk).mpr hv
theorem C_item (hst : l.stackTraces = false) {i k : Nat} {x : Th} (h : cR E f0 s0 fuel Bb C fr N sh ct out s f) (hl : C.length + 1 ≤ 8380) (hi : i < C.length) (hx : C.getD i (zI 0) = x) (hk : ¬ zk x = 0 → k < zn x) (h1 : ∀ s1 f1, cR E f0 s0 fuel Bb (C ++ [if zk x = 0 then zI (nI k) else zel x k]) fr N sh ct out s1 f1 → Q (.inl none) s1 f1) : EvC l E w (d + 3) MX3_item [.ref (w.1 3), .int (nI i), .int (nI k)] s f Q := by
  obtain ⟨hB, g1, g2, g3, g4, g5⟩ := id h
  have hv := hB.1.2.2 i hi
  have hZ : ZW x := by rw [← hx]; exact hB.1.2.1 _ (getD_mem _ hi)
  rw [hx] at hv
  obtain ⟨e1, e2, e3, e4, e5⟩ := hB.2.2.2.2.2.2.2
  refine eX3_item hst ?_
  rw [nI_clamp (n := i) (by omega)]
  refine ⟨inB_n (by omega), _, rfl, hv.isR, fun e => ?_, fun p e => ?_⟩
  · rcases hv.cls with ⟨c0, c1, c2⟩ | ⟨p, c1, _⟩
    · rw [if_pos c0] at h1
      exact C_push hst g1 (by omega) ⟨rfl, h1 _ _ (h.push hl (cpsh_fr JC s _ _ (Nat.le_refl _)) rfl rfl (by rw [cpsh_n, if_pos rfl]) (by rw [cpsh_t, if_pos rfl]) ⟨rfl, rfl⟩ trivial)⟩
    · rw [e] at c1; cases c1
  · rcases hv.cls with ⟨c0, c1, c2⟩ | ⟨p', c1, c2, c3, c4, hp⟩
    · rw [e] at c1; cases c1
    rw [e] at c1 hp
    cases c1
    rw [if_neg c3] at h1
    have hk := hk c3
    have hzel : ZW (zel x k) := zw_zel hZ k
    have h64 := zw_zn hZ
    refine ⟨hp.isT, ?_⟩
    rcases zcases hZ with ⟨v, rfl⟩ | ⟨a, rfl, z1⟩ | ⟨a, rfl, z1, z2, z3⟩ | ⟨a, rfl, z1, z2, z3, z4⟩
    · exact absurd rfl c3
    · obtain ⟨p', pa, v1, v2, v3, v4, v5, v6, v7, v8, v9⟩ := rcT.row hp
      cases v1
      have hk : k < a.length := hk
      rw [zel_R] at h1
      refine br_t v3.1 ⟨v3.1, v3, pa, v4, v6, by rw [v7]; exact inB_n hk, a.getD k 0, by rw [nI_clamp (n := k) (by omega)]; exact v8 k hk, ?_⟩
      exact C_push hst g1 (by omega) ⟨rfl, h1 _ _ (h.push hl (cpsh_fr JC s _ _ (Nat.le_refl _)) rfl rfl (by rw [cpsh_n, if_pos rfl]) (by rw [cpsh_t, if_pos rfl]) ⟨rfl, rfl⟩ trivial)⟩
    · obtain ⟨p', pa, v1, v2, v3, _⟩ := rcT.tab hp
      cases v1
      have hk : k < a.length := hk
      rw [zel_T a hk] at h1 hzel
      refine br_f (by rw [v3.1]; intro z; cases z) ⟨hp.isT, br_t v3.1 ⟨v3.1, v3, ?_⟩⟩
      refine EvC.fz (C_trow hst hp z1 (by omega) e2 (fun c y f1 y1 y2 y3 y4 hF hcb => ⟨y, rfl, ?_⟩) (fun c => absurd (inB_n hk) c))
      rw [nI_clamp (n := k) (by omega)] at y1
      have hR1 := h.fz hF hcb (by omega)
      refine C_pushT hst y1 g1 (by omega) (fun k2 x2 c5 c6 => ⟨rfl, h1 _ _ (hR1.pushT hl ?_ hzel c5 c6)⟩)
      show rcT f1.2.2.1 (ez E) f1.2.2.2 true _ _
      rw [y2]; exact y1
    · obtain ⟨p', pa, v1, v2, v3, v4, v5, v6, v7, v8, v9, v10⟩ := rcT.pack hp
      cases v1
      have hzn : zn (zP a) = a.length := by show (zl (zsp a)).length = _; rw [zl_zsp]
      rw [hzn] at hk h64
      rw [zel_P] at h1 hzel
      refine br_f (by rw [v3.1]; intro z; cases z) ⟨hp.isT, br_f (by rw [v3.1]; intro z; cases z) ?_⟩
      have hr := v10 k hk
      obtain ⟨y, y1, y2, y3⟩ := hr.ocl
      rw [y1] at hr
      refine ⟨v3.1, v3, pa, v4, 4, by decide, v6, by rw [v7]; exact inB_n hk, y, by rw [nI_clamp (n := k) (by omega)]; exact y1, ?_⟩
      exact C_pushT hst hr g1 (by omega) (fun k2 x2 c5 c6 => ⟨rfl, h1 _ _ (h.pushT hl hr hzel c5 c6)⟩)
end CIt
