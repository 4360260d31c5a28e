/-! THE COMPONENT: same, cut -/
noncomputable def zeq (t u : Th) : Int32 := @ite _ (t = u) (Classical.propDecidable _) 1 0
theorem zeq_y {t u : Th} (h : t = u) : zeq t u = 1 := @if_pos _ (Classical.propDecidable _) h _ _ _
theorem zeq_n {t u : Th} (h : ¬ t = u) : zeq t u = 0 := @if_neg _ (Classical.propDecidable _) h _ _ _
theorem ext_getD {α : Type} {a b : List α} (d : α) (hl : a.length = b.length) (h : ∀ j, j < a.length → a.getD j d = b.getD j d) : a = b := by
  refine List.ext_getElem hl (fun i h1 h2 => ?_)
  have := h i h1
  rw [getD_lt d h1, getD_lt d h2] at this
  exact this
section CSa
variable {l : Launch} {E : EN} {w : CO} {d : Nat} {s : CS} {f : RH} {Q : KO → CS → RH → Prop}
theorem C_alikeR (hst : l.stackTraces = false) {z b z' b' p q : Nat} {a c : List Int32} (ha : rcI f.2.2.1 z b (.ref p) a) (hc : rcI f.2.2.1 z' b' (.ref q) c) (hl : a.length ≤ 64) (hl2 : c.length ≤ 64) (h1 : a = c → Q (.inl (some (.int 1))) s f) (h0 : ¬ a = c → Q (.inl (some (.int 0))) s f) : EvC l E w d MX32_alike [.ref p, .ref q] s f Q := by
  obtain ⟨p', v1, v2, v3, v4, v5⟩ := ha.vw
  cases v1
  obtain ⟨q', u1, u2, u3, u4, u5⟩ := hc.vw
  cases u1
  have stop : ∀ k : Int32, ¬ a = c → ExC l E w d MX32_alike 15 [some (.ref p), some (.ref q), some (.int 0), some (.int k)] [] s f Q := fun k hne => vX32_alike_15 ⟨fun _ => ⟨rfl, h0 hne⟩, fun z => absurd rfl z⟩
  refine eX32_alike hst ⟨0, v3, 0, u3, ?_⟩
  rw [v4, u4]
  refine bn_eq a.length c.length (fun e => stop 0 fun z => e (by rw [z])) (fun e => ?_)
  refine dn (P := fun k => (∀ j, j < k → a.getD j 0 = c.getD j 0) → ExC l E w d MX32_alike 15 [some (.ref p), some (.ref q), some (.int 1), some (.int (nI k))] [] s f Q) a.length ?_ (fun k hk ih => ?_) (fun j hj => absurd hj (Nat.not_lt_zero j))
  · intro hall
    refine vX32_alike_15 ⟨fun z => absurd z (by decide), fun _ => ⟨0, v3, ?_⟩⟩
    rw [v4]
    exact pk_le a.length a.length (fun _ => ⟨rfl, h1 (ext_getD 0 e hall)⟩) (fun c => by omega) rfl rfl
  · intro hall
    refine vX32_alike_15 ⟨fun z => absurd z (by decide), fun _ => ⟨0, v3, ?_⟩⟩
    rw [v4, u4, nI_clamp (by omega)]
    refine pk_le a.length k (fun c => by omega) (fun _ => ⟨v3, inB_n hk, _, v5 k hk, u3, inB_n (by omega), _, u5 k (by omega), fun cne => stop _ fun z => cne (by rw [z]), fun ce => ?_⟩) rfl rfl
    rw [nI_1]
    refine ih (fun j hj => ?_)
    by_cases ej : j = k
    · rw [ej]; exact ce
    · exact hall j (by omega)
abbrev SamE (l : Launch) (E : EN) (w : CO) (D : Nat) (p q : Nat) (s : CS) (f : RH) (P : KO → CS → RH → Prop) : Prop := ∃ k8 : Nat, oc f p k8 ∧ ((k8 = 29 ∧ EvC l E w D MX32_same [.ref p, .ref q] s f P) ∨ (k8 = 30 ∧ EvC l E w D MX33_same [.ref p, .ref q] s f P) ∨ (k8 = 31 ∧ EvC l E w D MX34_same [.ref p, .ref q] s f P) ∨ (k8 = 32 ∧ EvC l E w D MX35_same [.ref p, .ref q] s f P))
theorem tag_ne {f : RH} {q k c : Nat} (h : oc f q k) (hne : k ≠ c) : ¬ tg f q = some (.inl c) := by
  rw [h.1]
  intro z
  injection z with z
  injection z with z
  exact hne z
theorem C_sameT (hst : l.stackTraces = false) {b : Nat} : ∀ t, ZW t → ∀ (u : Th) (p q : Nat) (D : Nat) (P : KO → CS → RH → Prop), ZW u → rcT f.2.2.1 (ez E) b true t (fun _ => .ref p) → rcT f.2.2.1 (ez E) b true u (fun _ => .ref q) → zd t + 1 ≤ D → P (.inl (some (.int (zeq t u)))) s f → SamE l E w D p q s f P := by
  refine zind ?_ ?_ ?_ ?_
  · intro v u p q D P wu hp hq hD hP
    obtain ⟨p', e1, e2, e3, e4⟩ := rcT.whole hp
    cases e1
    obtain ⟨q', g1, g2, g3⟩ := hq.ocl
    cases g1
    refine ⟨32, e3, Or.inr (Or.inr (Or.inr ⟨rfl, eX35_same hst ⟨hq.isT, ?_⟩⟩))⟩
    by_cases c : zk u = 0
    · rw [if_pos c] at g3
      have hq' := hq
      rw [zk0 c] at hq'
      obtain ⟨q', r1, r2, r3, r4⟩ := rcT.whole hq'
      cases r1
      refine br_t g3.1 ⟨g3.1, g3, _, r4, e3, _, e4, fun cne => ?_, fun ce => ?_⟩
      · rw [zeq_n (fun z => cne (by rw [← z]; rfl))] at hP
        exact hP
      · rw [zeq_y (by rw [zk0 c, ce])] at hP
        exact hP
    · rw [zeq_n (fun z => c (by rw [← z]; rfl))] at hP
      rw [if_neg c] at g3
      exact br_f (tag_ne g3 (by have := zk_le u; omega)) hP
  · intro a ha u p q D P wu hp hq hD hP
    obtain ⟨p', pa, e1, e2, e3, e4, e5, e6, e7, e8, e9⟩ := rcT.row hp
    cases e1
    obtain ⟨q', g1, g2, g3⟩ := hq.ocl
    cases g1
    obtain ⟨D', rfl⟩ : ∃ D', D = D' + 1 := ⟨D - 1, by omega⟩
    refine ⟨29, e3, Or.inl ⟨rfl, eX32_same hst ⟨hq.isT, ?_⟩⟩⟩
    by_cases c : zk u = 1
    · rw [if_neg (by omega), c] at g3
      have hq' := hq
      rw [zk1 c] at hq'
      have wu' := wu
      rw [zk1 c] at wu'
      obtain ⟨q', qa, r1, r2, r3, r4, r5, r6, r7, r8, r9⟩ := rcT.row hq'
      cases r1
      refine br_t g3.1 ⟨g3.1, e3, pa, e4, g3, qa, r4, ?_⟩
      refine C_alikeR hst e9 r9 ha wu' (fun ce => ⟨1, rfl, br_f (by decide) ?_⟩) (fun ce => ⟨0, rfl, br_t rfl ?_⟩)
      · rw [zeq_y (by rw [zk1 c, ce])] at hP
        exact hP
      · rw [zeq_n (fun z => ce (by rw [← z]; rfl))] at hP
        exact hP
    · rw [zeq_n (fun z => c (by rw [← z]; rfl))] at hP
      refine br_f (tag_ne g3 ?_) hP
      split
      · decide
      · omega
  · intro a ha1 ha2 ha3 u p q D P wu hp hq hD hP
    obtain ⟨p', pa, e1, e2, e3, e4, e5, e6, e7, e8⟩ := rcT.tab hp
    cases e1
    obtain ⟨q', g1, g2, g3⟩ := hq.ocl
    cases g1
    obtain ⟨D', rfl⟩ : ∃ D', D = D' + 1 := ⟨D - 1, by omega⟩
    refine ⟨30, e3, Or.inr (Or.inl ⟨rfl, eX33_same hst ⟨hq.isT, ?_⟩⟩)⟩
    by_cases c : zk u = 2
    · rw [if_neg (by omega), c] at g3
      obtain ⟨cc, hu⟩ : ∃ cc, u = zT cc := ⟨_, zk2 c⟩
      subst hu
      obtain ⟨wu1, wu2, wu3⟩ := wu
      obtain ⟨q', qa, r1, r2, r3, r4, r5, r6, r7, r8⟩ := rcT.tab hq
      cases r1
      refine br_t g3.1 ⟨g3.1, g3, qa, r4, 11, r6, e3, pa, e4, 11, e6, ?_⟩
      rw [r7, e7]
      refine pk_eq cc.length a.length (fun ce => ?_) (fun ce => ?_) rfl rfl
      · have stop : ∀ k : Int32, ¬ a = cc → ExC l E w (D' + 1) MX33_same 32 [some (.ref p), none, some (.ref q), some (.int 0), some (.int k)] [] s f P := fun k hne => vX33_same_32 ⟨fun _ => ⟨rfl, by rw [zeq_n (fun z => hne (by cases z; rfl))] at hP; exact hP⟩, fun z => absurd rfl z⟩
        refine dn (P := fun k => (∀ j, j < k → a.getD j [] = cc.getD j []) → ExC l E w (D' + 1) MX33_same 32 [some (.ref p), none, some (.ref q), some (.int 1), some (.int (nI k))] [] s f P) a.length ?_ (fun k hk ih => ?_) (fun j hj => absurd hj (Nat.not_lt_zero j))
        · intro hall
          refine vX33_same_32 ⟨fun z => absurd z (by decide), fun _ => ⟨e3, pa, e4, 11, e6, ?_⟩⟩
          rw [e7]
          refine pk_le a.length a.length (fun _ => ⟨rfl, ?_⟩) (fun c => by omega) rfl rfl
          rw [zeq_y (by rw [ext_getD [] ce.symm hall])] at hP
          exact hP
        · intro hall
          obtain ⟨r, s1, s2, s3, s4, s5⟩ := (e8 k hk).vw
          obtain ⟨r', t1, t2, t3, t4, t5⟩ := (r8 k (by omega)).vw
          refine vX33_same_32 ⟨fun z => absurd z (by decide), fun _ => ⟨e3, pa, e4, 11, e6, ?_⟩⟩
          rw [e7, nI_clamp (by omega)]
          refine pk_le a.length k (fun c => by omega) (fun _ => ⟨e3, pa, e4, 11, by decide, e6, by rw [e7]; exact inB_n hk, r, s1, g3, qa, r4, 11, by decide, r6, by rw [r7]; exact inB_n (by omega), r', t1, ?_⟩) rfl rfl
          have h8 := e8 k hk
          have h9 := r8 k (by omega)
          rw [s1] at h8
          rw [t1] at h9
          refine C_alikeR hst h8 h9 (ha3 _ (getD_mem [] hk)) (wu3 _ (getD_mem [] (by omega))) (fun cq => ⟨1, rfl, ?_⟩) (fun cq => ⟨0, rfl, stop _ fun z => cq (by rw [z])⟩)
          rw [nI_1]
          refine ih (fun j hj => ?_)
          by_cases ej : j = k
          · rw [ej]; exact cq
          · exact hall j (by omega)
      · rw [zeq_n (fun z => ce (by cases z; rfl))] at hP
        exact hP
    · rw [zeq_n (fun z => c (by rw [← z]; rfl))] at hP
      refine br_f (tag_ne g3 ?_) hP
      split
      · decide
      · omega
  · intro a ha1 ha2 ha3 ha4 u p q D P wu hp hq hD hP
    have hwa : ZW (zP a) := zw_pack.mpr ⟨ha1, ha2, ha3, fun x hx => (ha4 x hx).1⟩
    obtain ⟨p', pa, e1, e2, e3, e4, e5, e6, e7, e8, e9, e10⟩ := rcT.pack hp
    cases e1
    obtain ⟨q', g1, g2, g3⟩ := hq.ocl
    cases g1
    obtain ⟨D', rfl⟩ : ∃ D', D = D' + 1 := ⟨D - 1, by omega⟩
    refine ⟨31, e3, Or.inr (Or.inr (Or.inl ⟨rfl, eX34_same hst ⟨hq.isT, ?_⟩⟩))⟩
    by_cases c : zk u = 3
    · rw [if_neg (by omega), c] at g3
      obtain ⟨cc, rfl, wu1, wu2, wu3, wu4⟩ : ∃ cc, u = zP cc ∧ cc.length ≤ 20 ∧ (cc.map zb).sum + 1 ≤ 600 ∧ zd (zsp cc) ≤ 3 ∧ ∀ x ∈ cc, ZW x := by
        rcases zcases wu with ⟨v, rfl⟩ | ⟨a, rfl, z1⟩ | ⟨a, rfl, z1, z2, z3⟩ | h
        · cases c
        · cases c
        · cases c
        · exact h
      obtain ⟨q', qa, r1, r2, r3, r4, r5, r6, r7, r8, r9, r10⟩ := rcT.pack hq
      cases r1
      refine br_t g3.1 ⟨g3.1, g3, qa, r4, 4, r6, e3, pa, e4, 4, e6, ?_⟩
      rw [r7, e7]
      refine pk_eq cc.length a.length (fun ce => ?_) (fun ce => ?_) rfl rfl
      · have stop : ∀ k : Int32, ¬ a = cc → ExC l E w (D' + 1) MX34_same 32 [some (.ref p), none, some (.ref q), some (.int 0), some (.int k)] [] s f P := fun k hne => vX34_same_32 ⟨fun _ => ⟨rfl, by rw [zeq_n (fun z => hne (zP_inj z))] at hP; exact hP⟩, fun z => absurd rfl z⟩
        refine dn (P := fun k => (∀ j, j < k → a.getD j (zI 0) = cc.getD j (zI 0)) → ExC l E w (D' + 1) MX34_same 32 [some (.ref p), none, some (.ref q), some (.int 1), some (.int (nI k))] [] s f P) a.length ?_ (fun k hk ih => ?_) (fun j hj => absurd hj (Nat.not_lt_zero j))
        · intro hall
          refine vX34_same_32 ⟨fun z => absurd z (by decide), fun _ => ⟨e3, pa, e4, 4, e6, ?_⟩⟩
          rw [e7]
          refine pk_le a.length a.length (fun _ => ⟨rfl, ?_⟩) (fun c => by omega) rfl rfl
          rw [zeq_y (by rw [ext_getD (zI 0) ce.symm hall])] at hP
          exact hP
        · intro hall
          obtain ⟨r, s1, s2, s3⟩ := (e10 k hk).ocl
          obtain ⟨r', t1, t2, t3⟩ := (r10 k (by omega)).ocl
          have hm := getD_mem (zI 0) hk
          have hdk : zd (a.getD k (zI 0)) ≤ zd (zsp a) := zd_mem a _ hm
          rw [zd_zP] at hD
          refine vX34_same_32 ⟨fun z => absurd z (by decide), fun _ => ⟨e3, pa, e4, 4, e6, ?_⟩⟩
          rw [e7, nI_clamp (by omega)]
          have h8 := e10 k hk
          have h9 := r10 k (by omega)
          rw [s1] at h8
          rw [t1] at h9
          refine pk_le a.length k (fun c => by omega) (fun _ => ⟨e3, pa, e4, 4, by decide, e6, by rw [e7]; exact inB_n hk, r, s1, g3, qa, r4, 4, by decide, r6, by rw [r7]; exact inB_n (by omega), r', t1, fun o s1 f2 => o = .inl (some (.int (zeq (a.getD k (zI 0)) (cc.getD k (zI 0))))) ∧ s1 = s ∧ f2 = f, ?_, (ha4 _ hm).2 _ r r' D' _ (wu4 _ (getD_mem (zI 0) (by omega))) h8 h9 (by omega) ⟨rfl, rfl, rfl⟩⟩) rfl rfl
          rintro o s1 f2 ⟨rfl, rfl, rfl⟩
          refine ⟨_, rfl, ?_⟩
          by_cases cq : a.getD k (zI 0) = cc.getD k (zI 0)
          · rw [zeq_y cq, nI_1]
            refine ih (fun j hj => ?_)
            by_cases ej : j = k
            · rw [ej]; exact cq
            · exact hall j (by omega)
          · rw [zeq_n cq]
            exact stop _ fun z => cq (by rw [z])
      · rw [zeq_n (fun z => ce (by rw [zP_inj z]))] at hP
        exact hP
    · rw [zeq_n (fun z => c (by rw [← z]; rfl))] at hP
      refine br_f (tag_ne g3 ?_) hP
      split
      · decide
      · have := zk_le u
        omega
theorem C_alike (hst : l.stackTraces = false) {x y : Th} {vx vy : Value} {nx ny : Int32} (hx : rcV E f nx vx x) (hy : rcV E f ny vy y) (wx : ZW x) (wy : ZW y) (hQ : Q (.inl (some (.int (zeq x y)))) s f) : EvC l E w (d + 6) MX0_alike [.int nx, vx, .int ny, vy] s f Q := by
  refine eX0_alike hx.isR hy.isR hst ⟨fun e => ?_, fun a1 e => ?_⟩
  · rcases hx.cls with ⟨x0, x1, x2⟩ | ⟨p, x1, x2, x3, x4, x5⟩
    · rcases hy.cls with ⟨y0, y1, y2⟩ | ⟨q, y1, y2, y3, y4, y5⟩
      · refine ⟨fun z => absurd y1.symm z, fun _ => ⟨fun c => ?_, fun c => ?_⟩⟩
        · rw [zeq_n (fun z => c (by rw [x2, y2, z]))] at hQ
          exact hQ
        · rw [zeq_y (by rw [zk0 x0, zk0 y0, ← x2, ← y2, c])] at hQ
          exact hQ
      · rw [zeq_n (fun z => y3 (by rw [← z]; exact x0))] at hQ
        exact ⟨fun _ => hQ, fun z => by rw [y1] at z; cases z⟩
    · rw [e] at x1; cases x1
  · rcases hx.cls with ⟨x0, x1, x2⟩ | ⟨p, x1, x2, x3, x4, x5⟩
    · rw [e] at x1; cases x1
    rw [e] at x1 x5
    cases x1
    refine ⟨fun e2 => ?_, fun a2 e2 => ?_⟩
    · rcases hy.cls with ⟨y0, y1, y2⟩ | ⟨q, y1, y2, y3, y4, y5⟩
      · rw [zeq_n (fun z => x3 (by rw [z]; exact y0))] at hQ
        exact ⟨fun _ => hQ, fun z => by cases z⟩
      · rw [e2] at y1; cases y1
    · rcases hy.cls with ⟨y0, y1, y2⟩ | ⟨q, y1, y2, y3, y4, y5⟩
      · rw [e2] at y1; cases y1
      rw [e2] at y1 y5
      cases y1
      refine ⟨fun o s1 f2 => o = .inl (some (.int (zeq x y))) ∧ s1 = s ∧ f2 = f, ?_, C_sameT hst x wx y a1 a2 (d + 5) _ wy x5 y5 (by have := (zw_bd wx).2; omega) ⟨rfl, rfl, rfl⟩⟩
      rintro o s1 f2 ⟨rfl, rfl, rfl⟩
      refine ⟨_, rfl, ?_, hQ⟩
      by_cases c : x = y
      · rw [zeq_y c]; rfl
      · rw [zeq_n c]; rfl
theorem C_b27 (hst : l.stackTraces = false) {n md : Nat} {x y : Th} {place : Int32} (h : COk E n md [x, y] s f) (hQ : ∀ o s' f', cop E n md (zbi2 27 x y) place s f o s' f' → Q o s' f') : EvC l E w (d + 7) MX7_ofTwo [.ref (w.1 7), .int 27, .int place] s f Q := by
  obtain ⟨hx, hy, wx, wy, h26, h83⟩ := h.v2
  obtain ⟨⟨-, -, h40, hmd⟩, ⟨hr, hz, hcb⟩, -, -⟩ := h
  have hz1 : ez E ≤ f.1 := Nat.le_trans hz hcb
  refine EvC.pfrz (eX7_ofTwo hst fun y1 ey => ?_)
  rw [h26, nI_s2] at ey
  subst ey
  rw [nI_1, nI_clamp (n := n) (by omega), nI_clamp (n := n + 1) (by omega)]
  refine ⟨inB_n (by omega), _, rfl, hx.isR, inB_n (by omega), _, rfl, hy.isR, br_f (by decide) (br_f (by decide) (br_f (by decide) (br_f (by decide) (br_f (by decide) (br_f (by decide) (br_f (by decide) (br_f (by decide) (?_))))))))⟩
  refine ⟨inB_n (by omega), inB_n (by omega), C_alike hst hx hy wx wy ⟨_, rfl, ?_⟩⟩
  by_cases c : x = y
  · rw [zeq_y c]
    exact br_f (by decide) (C_finI hst (parts := 2) (v := 1) (by show Sum.inr (zI (zeq x y)) = _; rw [zeq_y c]) (cfr.rf JC n s) (Nat.le_refl _) h26 (by omega) h40 hQ)
  · rw [zeq_n c]
    exact br_t rfl (C_finI hst (parts := 2) (v := 0) (by show Sum.inr (zI (zeq x y)) = _; rw [zeq_n c]) (cfr.rf JC n s) (Nat.le_refl _) h26 (by omega) h40 hQ)
end CSa
