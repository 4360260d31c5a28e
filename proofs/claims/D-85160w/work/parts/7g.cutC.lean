/-! THE COMPONENT: cut -/
theorem fcont_tg {f : RH} {a : Nat} {g : Nat → Value} {t : Nat ⊕ Nat} (h : tg f a = some t) : tg (fcont f a g) a = some t ∧ ln (fcont f a g) a = ln f a ∧ ∀ i, vl (fcont f a g) a i = g i := by
  have hc := cellv' h
  have : (fcont f a g).2.2.1 a = some (t, ln f a, g) := by
    show (if a = a then (f.2.2.1 a).map _ else _) = _
    rw [if_pos rfl, hc]; rfl
  obtain ⟨c1, c2, c3⟩ := cellv this
  exact ⟨c1, c2, c3⟩
theorem fcont_ne {f : RH} {a b : Nat} {g : Nat → Value} (h : b ≠ a) : (fcont f a g).2.2.1 b = f.2.2.1 b := if_neg h
theorem Gw.cont {f0 f : RH} {c a : Nat} {g : Nat → Value} (h : Gw f0 f c) (ha : f0.1 ≤ a) : Gw f0 (fcont f a g) c := ⟨h.1, h.2.1, h.2.2.1, fun b hb => (if_neg (by omega)).trans (h.2.2.2 b hb)⟩
theorem rcI_cell {c c' : Nat → CC} {z b b' : Nat} {v : Value} {l : List Int32} (h : rcI c z b v l) (hb : b ≤ b') (hc : ∀ p, p < b → ∀ n g, c p = some (.inr 0, n, g) → c' p = c p) : rcI c' z b' v l := by
  obtain ⟨p, g, h1, h2, h3, h4⟩ := h
  exact ⟨p, g, h1, ⟨h2.1, Nat.lt_of_lt_of_le h2.2 hb⟩, by rw [hc p h2.2 _ _ h3]; exact h3, h4⟩
theorem TB.newrow {E : EN} {f0 f : RH} {n c m : Nat} {R : List (List Int32)} (h : TB E f0 n R c f) (hz : ez E ≤ f0.1) : (let f30 := fset (fnewA f 0 m) f0.1 R.length (.ref f.1); (tg (fnewA f 0 m) f0.1 = some (.inr 11) ∧ ln (fnewA f 0 m) f0.1 = n ∧ tg (fnewA f 0 m) f.1 = some (.inr 0)) ∧ (tg f30 f0.1 = some (.inr 11) ∧ ln f30 f0.1 = n ∧ vl f30 f0.1 R.length = .ref f.1 ∧ tg f30 f.1 = some (.inr 0) ∧ ln f30 f.1 = m ∧ Gw f0 f30 (c + (m + 1))) ∧ ∀ (row : List Int32) (g : Nat → Value), row.length = m → (∀ i, i < m → g i = .int (row.getD i 0)) → TB E f0 n (R ++ [row]) (c + (m + 1)) (fcont f30 f.1 g)) := by
  obtain ⟨h1, h2, h3, h4, h5⟩ := h
  intro f30
  have gp : Gw f (fnewA f 0 m) (m + 1) := Gw.push f _ _
  obtain ⟨c1, c2, c3⟩ := cellv (cell_push f (.inr 0, m, fun _ => defaultValue (AT 0)) m)
  have t1 := (gp.tgE h2).trans h3
  have t2 := (gp.lnE h2).trans h4
  obtain ⟨s1, s2, s3⟩ := fset_tg (j := R.length) (v := .ref f.1) t1
  have hne : f.1 ≠ f0.1 := by omega
  obtain ⟨n1, n2, n3⟩ := fset_ne (f := fnewA f 0 m) (j := R.length) (v := .ref f.1) hne
  have g30 : Gw f0 f30 (c + (m + 1)) := (h1.trans gp).set (Nat.le_refl _)
  refine ⟨⟨t1, t2, c1⟩, ⟨s1, s2.trans t2, by rw [s3, if_pos rfl], n1.trans c1, n2.trans c2, g30⟩, fun row g hr hg => ?_⟩
  obtain ⟨d1, d2, d3⟩ := fcont_tg (g := g) (n1.trans c1)
  have hcell := fcont_ne (f := f30) (g := g) hne.symm
  have e1 : tg (fcont f30 f.1 g) f0.1 = tg f30 f0.1 := by unfold tg; rw [hcell]
  have e2 : ln (fcont f30 f.1 g) f0.1 = ln f30 f0.1 := by unfold ln; rw [hcell]
  have e3 : ∀ i, vl (fcont f30 f.1 g) f0.1 i = vl f30 f0.1 i := fun i => by unfold vl; rw [hcell]
  refine ⟨g30.cont (by omega), Nat.lt_succ_of_lt h2, e1.trans s1, e2.trans (s2.trans t2), fun i hi => ?_⟩
  rw [e3, s3]
  by_cases e : i = R.length
  · rw [if_pos e, e, getD_last]
    exact rcI.of ⟨by omega, Nat.lt_succ_self _⟩ d1 (by rw [d2, n2.trans c2, hr]) (fun x hx => by rw [d3]; exact hg x (by omega))
  · have hi' : i < R.length := by rw [List.length_append] at hi; have : i < R.length + 1 := hi; omega
    rw [if_neg e, gp.vlE h2, getD_app1 _ _ hi']
    refine rcI_cell (h5 i hi') (Nat.le_succ _) (fun p hp n' g' hpc => ?_)
    have hpf : p ≠ f0.1 := fun z => by
      rw [z] at hpc
      have := (cellv hpc).1
      rw [h3] at this
      cases this
    have e4 : (fcont f30 f.1 g).2.2.1 p = f30.2.2.1 p := fcont_ne (by omega)
    have e5 : f30.2.2.1 p = (fnewA f 0 m).2.2.1 p := if_neg hpf
    rw [e4, e5]
    exact gp.2.2.2 p hp
theorem zcut_cons (X : List Int32) (v : Int32) (L : List Int32) : zcut X (v :: L) = X.take v.toNatClampNeg :: zcut (X.drop v.toNatClampNeg) L := by cases X <;> rfl
theorem zcut_nil (X : List Int32) : zcut X [] = [] := by cases X <;> rfl
section CCu
variable {l : Launch} {E : EN} {w : CO} {d : Nat} {s : CS} {f : RH} {Q : KO → CS → RH → Prop}
theorem C_cut (hst : l.stackTraces = false) {b p q : Nat} {a r : List Int32} {place : Int32} (ha : rcI f.2.2.1 (ez E) b (.ref p) a) (hr : rcI f.2.2.1 (ez E) b (.ref q) r) (hb : b ≤ f.1) (hal : a.length ≤ 64) (hrl : r.length ≤ 64) (hz : ez E ≤ f.1) (hcb : f.2.2.2 ≤ f.1) (hroom : f.2.1 + 400 ≤ BM)
    (h2 : 20 < r.length → Q (.inr 9) (cwrong s 2 place) f) (h3 : r.length ≤ 20 → (∃ v ∈ r, v < 0) → Q (.inr 9) (cwrong s 1 place) (fexc f)) (h4 : r.length ≤ 20 → ¬ (∃ v ∈ r, v < 0) → zsumI r ≠ (a.length : Int) → Q (.inr 9) (cwrong s 4 place) f)
    (h1 : r.length ≤ 20 → ¬ (∃ v ∈ r, v < 0) → zsumI r = (a.length : Int) → (zcut a r).length = r.length → zis (zcut a r) = a.length → ∀ f', TB E f r.length (zcut a r) (r.length + 1 + (r.length + a.length)) f' → Q (.inl (some (.ref f.1))) s f') : EvC l E w (d + 2) MX7_cut [.ref (w.1 7), .ref p, .ref q, .int place] s f Q := by
  obtain ⟨p', a1, a2, a3, a4, a5⟩ := ha.vw
  cases a1
  obtain ⟨q', r1, r2, r3, r4, r5⟩ := hr.vw
  cases r1
  have hp1 : p < f.1 := Nat.lt_of_lt_of_le a2.2 hb
  have hq1 : q < f.1 := Nat.lt_of_lt_of_le r2.2 hb
  refine eX7_cut hst ⟨0, r3, ?_⟩
  rw [r4]
  refine pk_le r.length 20 (fun c20 => ?_) (fun c => C_wrong hst (Q := Q) (h2 c) (fun _ _ _ => rfl)) rfl rfl
  refine dn (P := fun k => ∀ (b4 : Int64) (b6 : Int32), b4.toInt = zsumI (r.take k) → (b6.toInt < 0 ↔ ∃ v ∈ r.take k, v < 0) → ExC l E w (d + 2) MX7_cut 26 [some (.ref (w.1 7)), some (.ref p), some (.ref q), some (.int place), some (.long b4), none, some (.int b6), some (.int (nI k)), none, none] [] s f Q) r.length ?_ (fun k hk ih => ?_) 0 0 rfl ⟨fun c => absurd c (by decide), fun ⟨v, hv, _⟩ => by rw [List.take_zero] at hv; cases hv⟩
  · intro b4 b6 e4 e6
    rw [List.take_length] at e4 e6
    refine vX7_cut_26 ⟨0, r3, ?_⟩
    rw [r4]
    refine pk_le r.length r.length (fun _ => ⟨fun c0 => ?_, fun c0 => ?_⟩) (fun c => by omega) rfl rfl
    · have hneg : ¬ ∃ v ∈ r, v < 0 := fun z => by
        have := Int32.le_iff_toInt_le.mp c0
        have := e6.mpr z
        have h0 : (0 : Int32).toInt = 0 := rfl
        omega
      have e : lg_cmp b4 (nI a.length).toInt64 = 0 ↔ zsumI r = (a.length : Int) := by
        rw [lg_cmp_eq, ← Int64.toInt_inj, e4, i64_toInt, nI_toInt (by omega)]
      refine ⟨0, a3, ?_⟩
      rw [a4]
      refine ⟨fun c => ⟨0, r3, ?_⟩, fun c => C_wrong hst (Q := Q) (h4 c20 hneg (mt e.mpr c)) (fun _ _ _ => rfl)⟩
      have hsum := e.mp c
      have hpos : ∀ v ∈ r, ¬ v < 0 := fun v hv z => hneg ⟨v, hv, z⟩
      have hs2 := hsum
      rw [zsumI_nat r hpos] at hs2
      have hPle : ∀ i, ((r.take i).map Int32.toNatClampNeg).sum ≤ a.length := by
        intro i
        have e : (r.map Int32.toNatClampNeg).sum = ((r.take i).map Int32.toNatClampNeg).sum + ((r.drop i).map Int32.toNatClampNeg).sum := by
          rw [← List.sum_append, ← List.map_append, List.take_append_drop]
        omega
      rw [nI_clamp (by omega)]
      refine ⟨i32_nn _ (by omega), by omega, (by show f.2.1 + 1 + r.length ≤ BM; omega), fun a7 f8 e1 e2 => ?_⟩
      subst e1 e2
      refine dn (P := fun k => ∀ (R : List (List Int32)) fk, R.length = k → zis R = ((r.take k).map Int32.toNatClampNeg).sum → zcut a r = R ++ zcut (a.drop ((r.take k).map Int32.toNatClampNeg).sum) (r.drop k) → TB E f r.length R (r.length + 1 + (k + ((r.take k).map Int32.toNatClampNeg).sum)) fk → ExC l E w (d + 2) MX7_cut 114 [none, some (.ref p), some (.ref q), none, none, none, none, some (.ref f.1), some (.int (nI ((r.take k).map Int32.toNatClampNeg).sum)), some (.int (nI k))] [] s fk Q) r.length ?_ (fun k hk ih => ?_) [] _ rfl rfl (by rw [List.drop_zero]; rfl) ((TB.start E f r.length).le (by show _ ≤ r.length + 1 + (0 + 0); omega))
      · intro R fk hRl hRz hRc hB
        rw [List.take_length] at hRz hRc hB
        rw [List.drop_length, zcut_nil, List.append_nil] at hRc
        have g := hB.1
        refine vX7_cut_114 ⟨0, (g.tgE hq1).trans r3, ?_⟩
        rw [g.lnE hq1, r4]
        refine pk_le r.length r.length (fun _ => ?_) (fun c => by omega) rfl rfl
        refine h1 c20 hneg hsum (by rw [hRc]; exact hRl) (by rw [hRc]; omega) fk ?_
        rw [hRc]
        exact hB.le (by omega)
      · intro R fk hRl hRz hRc hB
        have g := hB.1
        have hbud := g.2.2.1
        have hp0 := hPle k
        have hp2 := hPle (k + 1)
        have hm := getD_mem (0 : Int32) hk
        obtain ⟨z1, z2⟩ := i32_nat (hpos _ hm)
        have hts := take_succ_getD r 0 k hk
        have hP1 : ((r.take (k + 1)).map Int32.toNatClampNeg).sum = ((r.take k).map Int32.toNatClampNeg).sum + (r.getD k 0).toNatClampNeg := by
          rw [hts, List.map_append, List.sum_append]; simp
        have hdr := take_getD_drop r 0 k hk
        rw [hdr, zcut_cons, List.drop_drop, ← hP1] at hRc
        generalize hPe : ((r.take k).map Int32.toNatClampNeg).sum = P at *
        generalize hme : (r.getD k 0).toNatClampNeg = m at *
        have hrow : ((a.drop P).take m).length = m := by rw [List.length_take, List.length_drop]; omega
        obtain ⟨⟨t1, t2, t3⟩, ⟨u1, u2, u3, u4, u5, u6⟩, hN⟩ := hB.newrow (m := m) hz
        rw [hRl] at u1 u2 u3 u4 u5 u6 hN
        refine vX7_cut_114 ⟨0, (g.tgE hq1).trans r3, ?_⟩
        rw [g.lnE hq1, r4, nI_clamp (n := k) (by omega)]
        refine pk_le r.length k (fun c => by omega) (fun _ => ⟨(g.tgE hq1).trans r3, inB_n hk, nI m, by rw [g.vlE hq1, ← z2]; exact r5 k hk, i32_nn m (by omega), ?_⟩) rfl rfl
        rw [nI_clamp (n := m) (by omega)]
        refine ⟨by omega, (by show fk.2.1 + 1 + m ≤ BM; omega), fun a28 f29 e1 e2 => ?_⟩
        subst e1 e2
        refine ⟨t1, t3, Nat.le_trans hz g.1, by rw [t2]; exact inB_n hk, by show fk.2.2.2 ≤ _; rw [g.2.1]; exact hcb, fun f30 e30 => ?_⟩
        subst e30
        refine ⟨11, by decide, u1, by rw [u2]; exact inB_n hk, fk.1, u3, (u6.tgE hq1).trans r3, by rw [u6.lnE hq1, r4]; exact inB_n hk, nI m, by rw [u6.vlE hq1, ← z2]; exact r5 k hk, (u6.tgE hp1).trans a3, u4, by rw [u6.2.1]; exact Nat.le_trans hcb g.1, i32_nn P (by omega), by decide, i32_nn m (by omega), ?_⟩
        rw [nI_clamp (n := m) (by omega), nI_clamp (n := P) (by omega), u6.lnE hp1, a4, u5]
        refine ⟨by omega, by show 0 + m ≤ m; omega, fun i hi => ⟨_, by rw [u6.vlE hp1]; exact a5 (P + i) (by omega)⟩, fun f34 e34 => ?_⟩
        have hB2 := hN ((a.drop P).take m) (cpy (vl (fset (fnewA fk 0 m) f.1 k (.ref fk.1)) p) (vl (fset (fnewA fk 0 m) f.1 k (.ref fk.1)) fk.1) P 0 m) hrow (fun i hi => by
          show (if 0 ≤ i ∧ i < 0 + m then vl _ p (P + (i - 0)) else _) = _
          rw [if_pos ⟨Nat.zero_le _, by omega⟩, u6.vlE hp1, Nat.sub_zero, a5 (P + i) (by omega), getD_lt 0 (show i < ((a.drop P).take m).length by omega), List.getElem_take, List.getElem_drop, getD_lt 0 (by omega)])
        have e34' : f34 = fcont (fset (fnewA fk 0 m) f.1 k (.ref fk.1)) fk.1 (cpy (vl (fset (fnewA fk 0 m) f.1 k (.ref fk.1)) p) (vl (fset (fnewA fk 0 m) f.1 k (.ref fk.1)) fk.1) P 0 m) := e34
        rw [← e34'] at hB2
        have g2 := hB2.1
        refine ⟨(g2.tgE hq1).trans r3, by rw [g2.lnE hq1, r4]; exact inB_n hk, nI m, by rw [g2.vlE hq1, ← z2]; exact r5 k hk, fun y36 ey => ?_⟩
        rw [ey, nI_add, nI_1, ← hP1]
        refine ih (R ++ [(a.drop P).take m]) f34 (by rw [List.length_append, hRl]; rfl) (by rw [zis_app, zis_cons, zis_nil, hRz, hrow, hP1]; omega) (by rw [hRc, List.append_assoc]; rfl) (hB2.le (by omega))
    · have hneg : ∃ v ∈ r, v < 0 := e6.mp (by
        have := mt Int32.le_iff_toInt_le.mpr c0
        have h0 : (0 : Int32).toInt = 0 := rfl
        omega)
      have hb6 : b6 < 0 := i32_neg.mpr (e6.mpr hneg)
      refine C_mints hst (by omega) (fun c => absurd hb6 c) (fun c => ?_) (fun _ => h3 c20 hneg)
      have := e6.mpr hneg
      omega
  · intro b4 b6 e4 e6
    have hts := take_succ_getD r 0 k hk
    have hbd := zsumI_bd (r.take k)
    rw [List.length_take] at hbd
    have hv := i32_rng (r.getD k 0)
    refine vX7_cut_26 ⟨0, r3, ?_⟩
    rw [r4, nI_clamp (n := k) (by omega)]
    refine pk_le r.length k (fun c => by omega) (fun _ => ⟨r3, inB_n hk, _, r5 k hk, fun y23 e23 => ⟨r3, inB_n hk, _, r5 k hk, fun y25 e25 => ?_⟩⟩) rfl rfl
    rw [nI_1]
    generalize r.getD k 0 = v at *
    refine ih y23 y25 ?_ ?_
    · rw [e23, hts, zsumI_snoc]
      refine i64_add (by rw [e4, i64_toInt]) ?_ ?_
      · omega
      · omega
    · rw [hts]
      have hex : (∃ u ∈ r.take k ++ [v], u < 0) ↔ (b6.toInt < 0 ∨ v.toInt < 0) := by
        constructor
        · rintro ⟨u, hu, hu2⟩
          rcases List.mem_append.mp hu with h | h
          · exact Or.inl (e6.mpr ⟨u, h, hu2⟩)
          · rcases List.mem_cons.mp h with rfl | h
            · exact Or.inr (i32_neg.mp hu2)
            · cases h
        · rintro (h | h)
          · obtain ⟨u, hu, hu2⟩ := e6.mp h
            exact ⟨u, List.mem_append_left _ hu, hu2⟩
          · exact ⟨v, List.mem_append_right _ List.mem_cons_self, i32_neg.mpr h⟩
      rw [hex, e25]
      by_cases c : v < b6
      · rw [if_pos c]
        have := Int32.lt_iff_toInt_lt.mp c
        omega
      · rw [if_neg c]
        have := mt Int32.lt_iff_toInt_lt.mpr c
        omega
theorem zcut_mem {u : List Int32} : ∀ {r x : List Int32}, u ∈ zcut x r → u.length ≤ x.length
  | [], x, h => by rw [zcut_nil] at h; cases h
  | v :: r, x, h => by
    rw [zcut_cons] at h
    rcases List.mem_cons.mp h with rfl | h
    · rw [List.length_take]; omega
    · have := zcut_mem h
      rw [List.length_drop] at this
      omega
theorem C_b22 (hst : l.stackTraces = false) {n md : Nat} {x y : Th} {place : Int32} (h : COk E n md [x, y] s f) (hQ : ∀ o s' f', cop E n md (zbi2 22 x y) place s f o s' f' → Q o s' f') : EvC l E w (d + 4) MX7_ofTwo [.ref (w.1 7), .int 22, .int place] s f Q := by
  obtain ⟨hx, hy, wx, wy, h26, h83⟩ := h.v2
  obtain ⟨⟨-, -, h40, hmd⟩, ⟨hr, hz, hcb⟩, -, -⟩ := h
  have hz1 : ez E ≤ f.1 := Nat.le_trans hz hcb
  refine EvC.pfrz (eX7_ofTwo hst fun y1 ey => ?_)
  rw [h26, nI_s2] at ey
  subst ey
  rw [nI_1, nI_clamp (n := n) (by omega), nI_clamp (n := n + 1) (by omega)]
  refine ⟨inB_n (by omega), _, rfl, hx.isR, inB_n (by omega), _, rfl, hy.isR, br_f (by decide) (br_f (by decide) (br_f (by decide) (br_t rfl ?_)))⟩
  have hb := zbi2_22 x y
  have g := fnew_gw f 30
  have hbud := g.2.2.1
  rw [CZ30] at hbud
  refine ⟨(by show f.2.1 + 1 + 2 ≤ BM; omega), fun a25 f26 e1 e2 => ?_⟩
  subst e1 e2
  refine C_asRow hst g hcb (by omega) hx (fun c p hp => ⟨p, rfl, ?_⟩) (fun c => hQ _ _ _ (cop.tr (k := 3) (hb.trans (if_pos (Or.inl c))) rfl h40 (by omega)))
  obtain ⟨p', pa, v1, v2, v3, v4, v5, v6, v7, v8, v9⟩ := rcT.row hp
  cases v1
  have hp1 : p < f.1 := Nat.lt_of_lt_of_le v2 hcb
  refine ⟨g.ocE hp1 v3, pa, by rw [g.vlE hp1]; exact v4, ?_⟩
  refine C_asRow hst g hcb (by omega) hy (fun c2 q hq => ⟨q, rfl, ?_⟩) (fun c2 => hQ _ _ _ (cop.tr (k := 3) (hb.trans (if_pos (Or.inr c2))) rfl h40 (by omega)))
  obtain ⟨q', qa, u1, u2, u3, u4, u5, u6, u7, u8, u9⟩ := rcT.row hq
  cases u1
  have hq1 : q < f.1 := Nat.lt_of_lt_of_le u2 hcb
  refine ⟨g.ocE hq1 u3, qa, by rw [g.vlE hq1]; exact u4, ?_⟩
  rw [if_neg (by omega)] at hb
  have wx' := wx
  rw [zk1 c] at wx'
  have wl : (zr x).length ≤ 64 := wx'
  have wy' := wy
  rw [zk1 c2] at wy'
  have wl2 : (zr y).length ≤ 64 := wy'
  refine C_cut hst (b := f.2.2.2) (g.rI hcb v9) (g.rI hcb u9) (Nat.le_succ_of_le hcb) wl wl2 (Nat.le_succ_of_le hz1) (Nat.le_succ_of_le hcb) (by omega) (fun k2 => hQ _ _ _ (cop.tr (k := 2) (hb.trans (if_pos k2)) rfl h40 (by omega))) (fun k2 k3 => hQ _ _ _ (cop.tr (k := 1) (hb.trans (by rw [if_neg (by omega), if_pos k3])) rfl h40 (by show (fnew f 30).2.1 + 225 ≤ _; omega))) (fun k2 k3 k4 => hQ _ _ _ (cop.tr (k := 4) (hb.trans (by rw [if_neg (by omega), if_neg k3, if_pos k4])) rfl h40 (by omega))) (fun k2 k3 k4 k5 k6 f' hB => ⟨_, rfl, ?_⟩)
  rw [if_neg (by omega), if_neg k3, if_neg (fun z => z k4)] at hb
  obtain ⟨b1, b2, b3, b4, b5⟩ := hB
  have hw : ZW (zT (zcut (zr x) (zr y))) := ⟨by omega, by omega, fun r hr => Nat.le_trans (zcut_mem hr) wl⟩
  refine C_tabLate hst b1 hcb b3 (b4.trans k5.symm) b2 b5 (fun f2 q1 q2 => ⟨rfl, ?_⟩)
  exact C_fin hst (parts := 2) (f0 := f) hb (cfr.rf JC n s) q2.2.2.1 q1 (by show ¬ 2 = 0; decide) hw h26 (by omega) h40 hmd (by show _ ≤ 2 * (4 + 4 * (zcut (zr x) (zr y)).length + zis (zcut (zr x) (zr y))); omega) hQ
end CCu
