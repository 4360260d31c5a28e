/-! THE COMPONENT: flat -/
theorem fcont_push (f : RH) (t : Nat ⊕ Nat) (m : Nat) (g g' : Nat → Value) (n : Nat) : fcont (fpush f (t, m, g) n) f.1 g' = fpush f (t, m, g') n := by
  have : (fcont (fpush f (t, m, g) n) f.1 g').2.2.1 = (fpush f (t, m, g') n).2.2.1 := by
    funext b
    show (if b = f.1 then ((fpush f (t, m, g) n).2.2.1 f.1).map _ else (fpush f (t, m, g) n).2.2.1 b) = _
    rw [cell_push]
    by_cases e : b = f.1
    · rw [if_pos e, e, cell_push]; rfl
    · rw [if_neg e, cell_push' _ _ _ e, cell_push' _ _ _ e]
  exact Prod.ext rfl (Prod.ext rfl (Prod.ext this rfl))
theorem IA.copy {f0 f : RH} {N q k : Nat} {L r : List Int32} (h : IA f0 N L f) (hk : k = L.length) (hv : ∀ i, i < r.length → vl f q i = .int (r.getD i 0)) : IA f0 N (L ++ r) (fcont f f0.1 (cpy (vl f q) (vl f f0.1) 0 k r.length)) := by
  subst hk
  have hat := h.at.2.2
  obtain ⟨g, e, hg⟩ := h
  refine ⟨cpy (vl f q) (vl f f0.1) 0 L.length r.length, ?_, fun i hi => ?_⟩
  · conv => lhs; rw [e]
    rw [fcont_push, ← e]
  · rw [List.length_append] at hi
    show (if L.length ≤ i ∧ i < L.length + r.length then vl f q (0 + (i - L.length)) else vl f f0.1 i) = _
    by_cases c : L.length ≤ i
    · rw [if_pos ⟨c, hi⟩, Nat.zero_add, hv _ (by omega)]
      have e2 : i = L.length + (i - L.length) := by omega
      conv => rhs; rw [e2]
      rw [getD_app2]
    · rw [if_neg (fun z => c z.1), getD_app1 _ _ (by omega)]
      exact hat i (by omega)
/-- an INT or a row among things: its cell, its INT -/
def AV (E : EN) (f : RH) (b : Nat) (v : Value) (x : Int32) (t : Th) : Prop := (isR v = true ∧ isT f v) ∧ ((zk t = 1 ∧ rcT f.2.2.1 (ez E) b true t (fun _ => v)) ∨ (zk t = 0 ∧ x = zv t ∧ ∀ z : Nat, v = .ref z → ¬ tg f z = some (.inl 29)))
theorem zpp_len {t : Th} (h : ZW t) : (zpp t).length ≤ 64 := by
  unfold zpp
  split
  · show 1 ≤ 64; omega
  · rcases zcases h with ⟨v, rfl⟩ | ⟨a, rfl, z1⟩ | ⟨a, rfl, z1, z2, z3⟩ | ⟨a, rfl, z1, z2, z3, z4⟩
    · exact Nat.zero_le _
    · exact z1
    · exact Nat.zero_le _
    · exact Nat.zero_le _
section CFl
variable {l : Launch} {E : EN} {w : CO} {d : Nat} {s : CS} {f : RH} {Q : KO → CS → RH → Prop}
theorem C_intsOf (hst : l.stackTraces = false) {b : Nat} {v : Value} {x : Int32} {t : Th} (h : AV E f b v x t) (hQ : Q (.inl (some (.int (nI (zpp t).length)))) s f) : EvC l E w d MX7_intsOf [v] s f Q := by
  obtain ⟨⟨h1, h2⟩, h3⟩ := h
  refine eX7_intsOf h1 hst ⟨h2, ?_⟩
  rcases h3 with ⟨k1, h3⟩ | ⟨k0, h4, h5⟩
  · have e : zpp t = zr t := by unfold zpp; rw [if_neg (by omega)]
    rw [zk1 k1] at h3
    obtain ⟨p, q, v1, v2, v3, v4, v5, v6, v7, v8, v9⟩ := rcT.row h3
    refine is_y (X := True) v1 v3.1 ⟨v3.1, v3, q, v4, 0, v6, ?_⟩
    rw [v7, ← e]; exact hQ
  · refine is_n h5 ?_
    have e : zpp t = [zv t] := by unfold zpp; rw [if_pos k0]
    rw [e] at hQ
    exact hQ
theorem C_copyInts (hst : l.stackTraces = false) {f0 : RH} {N b at0 : Nat} {L : List Int32} {v : Value} {x : Int32} {t : Th} (hI : IA f0 N L f) (hat : at0 = L.length) (h : AV E f b v x t) (hb : b ≤ f0.1) (hN : L.length + (zpp t).length ≤ N) (hN2 : N < 2 ^ 31) (hcb : f0.2.2.2 ≤ f0.1) (hQ : ∀ f', IA f0 N (L ++ zpp t) f' → Q (.inl none) s f') : EvC l E w (d + 1) MX7_copyInts [v, .int x, .ref f0.1, .int (nI at0)] s f Q := by
  subst hat
  obtain ⟨⟨h1, h2⟩, h3⟩ := h
  refine eX7_copyInts h1 hst ⟨h2, ?_⟩
  rcases h3 with ⟨k1, h3⟩ | ⟨k0, h4, h5⟩
  · have e : zpp t = zr t := by unfold zpp; rw [if_neg (by omega)]
    rw [e] at hN hQ
    rw [zk1 k1] at h3
    obtain ⟨p, q, v1, v2, v3, v4, v5, v6, v7, v8, v9⟩ := rcT.row h3
    refine is_y (X := True) v1 v3.1 ⟨v3.1, v3, q, v4, v3, q, v4, 0, v6, v6, hI.at.1, by rw [hI.eqs.2.2]; exact hcb, by decide, i32_nn _ (by omega), ?_⟩
    rw [v7, hI.at.2.1, nI_clamp (n := (zr t).length) (by omega), nI_clamp (by omega)]
    refine ⟨i32_nn _ (by omega), by show 0 + _ ≤ _; omega, hN, fun i hi => ⟨_, by show vl f q (0 + i) = _; rw [Nat.zero_add]; exact v8 i hi⟩, fun f6 e6 => ?_⟩
    rw [e6]
    exact hQ _ (hI.copy rfl v8)
  · refine is_n h5 ?_
    have e : zpp t = [zv t] := by unfold zpp; rw [if_pos k0]
    rw [e] at hN hQ
    have hN : L.length + 1 ≤ N := hN
    refine ⟨hI.at.1, by rw [hI.at.2.1]; exact inB_n (by omega), by rw [hI.eqs.2.2]; exact hcb, fun f7 e7 => ?_⟩
    rw [nI_clamp (by omega), h4] at e7
    rw [e7]
    exact hQ _ (hI.snoc _)
theorem flat_len_le {A : List (List Int32)} {i : Nat} : (A.take i).flatten.length ≤ A.flatten.length := by
  conv => rhs; rw [← List.take_append_drop i A]
  rw [List.flatten_append, List.length_append]
  exact Nat.le_add_right _ _
theorem flat_take_succ (A : List (List Int32)) (k : Nat) (hk : k < A.length) : (A.take (k + 1)).flatten = (A.take k).flatten ++ A.getD k [] := by
  rw [take_succ_getD A [] k hk, List.flatten_append]
  simp
theorem zis_flat (A : List (List Int32)) : A.flatten.length = zis A := by
  induction A with
  | nil => rfl
  | cons a r ih => rw [List.flatten_cons, List.length_append, ih, zis_cons]
/-- a thing's own arrays stay where they are while an array behind them is filled -/
theorem Gw.AV {f0 f : RH} {c b : Nat} {v : Value} {x : Int32} {t : Th} (g : Gw f0 f c) (hb : b ≤ f0.1) (h : rcT f0.2.2.1 (ez E) b true t (fun _ => v)) (hk : zk t < 2) (hx : zk t = 0 → x = zv t) : AV E f b v x t := by
  have h' := g.rT hb h
  obtain ⟨p, e1, e2, e3⟩ := h'.ocl
  refine ⟨⟨by rw [e1]; rfl, h'.isT⟩, ?_⟩
  by_cases c : zk t = 1
  · exact Or.inl ⟨c, h'⟩
  · have c0 : zk t = 0 := by omega
    refine Or.inr ⟨c0, hx c0, fun z ez q => ?_⟩
    rw [e1] at ez
    cases ez
    rw [if_pos c0] at e3
    rw [e3.1] at q
    cases q
theorem C_flat (hst : l.stackTraces = false) {n0 place : Int32} {vx : Value} {x : Th} {f0 : RH} {c0 : Nat} (g0 : Gw f0 f c0) (hx : rcV E f0 n0 vx x) (wx : ZW x) (hcb : f0.2.2.2 ≤ f0.1) (hroom : f.2.1 + 300 ≤ BM) (h3 : zflat x = none → Q (.inr 9) (cwrong s 3 place) f) (h2 : ∀ a, zflat x = some a → 64 < a.length → Q (.inr 9) (cwrong s 2 place) f) (h1 : ∀ a, zflat x = some a → a.length ≤ 64 → ∀ f', IA f a.length a f' → Q (.inl (some (.ref f.1))) s f') : EvC l E w (d + 2) MX7_flat [.ref (w.1 7), vx, .int place] s f Q := by
  have hx' := hx.gw g0 hcb
  have hcbf : f.2.2.2 ≤ f.1 := by have := g0.1; rw [g0.2.1]; omega
  have r2 := hx'.isRow 2 (by decide) (by decide)
  have r3 := hx'.isRow 3 (by decide) (by decide)
  refine eX7_flat hx.isR hst ⟨hx'.isT, ?_⟩
  by_cases c2 : zk x = 2
  · obtain ⟨p, ep, tp⟩ := r2.1 c2
    have hp : RT E f (.ref p) (zT (zt x)) := by rw [← zk2 c2, ← ep]; exact (rcV_thing (by omega)).mp hx'
    have wx' := wx
    rw [zk2 c2] at wx'
    obtain ⟨w1, w2, w3⟩ := wx'
    obtain ⟨p', q, v1, v2, v3, v4, v5, v6, v7, v8⟩ := rcT.tab hp
    cases v1
    have hp1 : p < f.1 := Nat.lt_of_lt_of_le v2 hcbf
    have hq1 : q < f.1 := Nat.lt_of_lt_of_le v5 hcbf
    have hzf : zflat x = some (zt x).flatten := by unfold zflat; rw [if_pos c2]
    generalize hT : zt x = T at *
    have hfl := zis_flat T
    refine is_y (X := True) ep tp ⟨tp, v3, C_ints v3 v4 v6 v7 v8 (by omega) w3 hst ⟨_, rfl, ?_⟩⟩
    refine C_mints hst (by omega) (fun c c64 => ⟨_, rfl, ?_⟩) (fun c => h2 _ hzf (by rw [nI_toInt (by omega)] at c; omega)) (fun c => absurd c (i32_nn _ (by omega)))
    rw [nI_clamp (by omega)] at c64 ⊢
    refine dn (P := fun k => ∀ fk, IA f (zis T) (T.take k).flatten fk → ExC l E w (d + 2) MX7_flat 35 [none, none, none, some (.ref p), some (.ref f.1), some (.int (nI (T.take k).flatten.length)), some (.int (nI k)), none, none, none, none] [] s fk Q) T.length ?_ (fun k hk ih => ?_) (fA f (zis T) []) (IA.fa f (zis T) [])
    · intro fk hA
      have g := hA.gw
      rw [List.take_length] at hA ⊢
      refine vX7_flat_35 ⟨g.ocE hp1 v3, q, by rw [g.vlE hp1]; exact v4, 11, (g.tgE hq1).trans v6, ?_⟩
      rw [g.lnE hq1, v7]
      refine pk_le T.length T.length (fun _ => h1 _ hzf (by omega) fk (by rw [hfl]; exact hA)) (fun c => by omega) rfl rfl
    · intro fk hA
      have g := hA.gw
      obtain ⟨r, r1', r2', r3', r4', r5'⟩ := (v8 k hk).vw
      have hr1 : r < f.1 := Nat.lt_of_lt_of_le r2'.2 hcbf
      have hfle := flat_len_le (A := T) (i := k + 1)
      have hfs := flat_take_succ T k hk
      have hm := w3 _ (getD_mem ([] : List Int32) hk)
      have hlen : (T.take (k + 1)).flatten.length = (T.take k).flatten.length + (T.getD k []).length := by rw [hfs, List.length_append]
      have hoc := g.ocE hp1 v3
      have hvl : vl fk p 204 = .ref q := by rw [g.vlE hp1]; exact v4
      have htq := (g.tgE hq1).trans v6
      have hvr : vl fk q k = .ref r := by rw [g.vlE hq1]; exact r1'
      have hib : inB (nI k) (ln fk q) := by rw [g.lnE hq1, v7]; exact inB_n hk
      refine vX7_flat_35 ⟨hoc, q, hvl, 11, htq, ?_⟩
      rw [g.lnE hq1, v7, nI_clamp (n := k) (by omega)]
      refine pk_le T.length k (fun c => by omega) (fun _ => ⟨hoc, q, hvl, 11, by decide, htq, hib, r, hvr, hoc, q, hvl, 11, by decide, htq, hib, r, hvr, 0, (g.tgE hr1).trans r3', (g.tgE hr1).trans r3', hA.at.1, by rw [hA.eqs.2.2]; exact hcbf, by decide, i32_nn _ (by omega), ?_⟩) rfl rfl
      rw [g.lnE hr1, r4', hA.at.2.1, nI_clamp (n := (T.getD k []).length) (by omega), nI_clamp (n := (T.take k).flatten.length) (by omega)]
      refine ⟨i32_nn _ (by omega), by show 0 + _ ≤ _; omega, by omega, fun i hi => ⟨_, by show vl fk r (0 + i) = _; rw [Nat.zero_add, g.vlE hr1]; exact r5' i hi⟩, fun f23 e => ?_⟩
      have hA2 := hA.copy (q := r) (r := T.getD k []) rfl (fun i hi => by rw [g.vlE hr1]; exact r5' i hi)
      have e0 : f23 = fcont fk f.1 (cpy (vl fk r) (vl fk f.1) 0 (T.take k).flatten.length (T.getD k []).length) := e
      rw [← e0, ← hfs] at hA2
      have g2 := hA2.gw
      refine ⟨g2.ocE hp1 v3, q, by rw [g2.vlE hp1]; exact v4, 11, by decide, (g2.tgE hq1).trans v6, by rw [g2.lnE hq1, v7]; exact inB_n hk, r, by rw [g2.vlE hq1]; exact r1', 0, (g2.tgE hr1).trans r3', fun y28 ey => ?_⟩
      rw [g2.lnE hr1, r4', nI_add, ← hlen] at ey
      rw [ey, nI_1]
      exact ih f23 hA2
  · refine is_n (r2.2 c2) ⟨hx'.isT, ?_⟩
    by_cases c3 : zk x = 3
    · obtain ⟨p, ep, tp⟩ := r3.1 c3
      rcases zcases wx with ⟨v, rfl⟩ | ⟨a, rfl, z1⟩ | ⟨a, rfl, z1, z2, z3⟩ | ⟨a, rfl, z1, z2, z3, z4⟩
      · cases c3
      · cases c3
      · cases c3
      have hp : RT E f (.ref p) (zP a) := by rw [← ep]; exact hx'
      obtain ⟨p', q, v1, v2, v3, v4, v5, v6, v7, v8, v9, v10⟩ := rcT.pack hp
      cases v1
      have hp1 : p < f.1 := Nat.lt_of_lt_of_le v2 hcbf
      have hq1 : q < f.1 := Nat.lt_of_lt_of_le v5 hcbf
      have hzf : zflat (zP a) = if a.all (fun t => decide (zk t < 2)) = true then some (a.map zpp).flatten else none := by
        have := zflat_eq (x := zP a) (Or.inr rfl)
        rw [zl_zP] at this
        exact this
      have hmt : ∀ k, k < a.length → (a.map zpp).getD k [] = zpp (a.getD k (zI 0)) := fun k hk => getD_map zpp a (zI 0) [] hk
      have hml : (a.map zpp).length = a.length := List.length_map ..
      refine is_y (X := True) ep tp ⟨tp, ?_⟩
      have hlen : ∀ k, k < a.length → ((a.map zpp).take (k + 1)).flatten.length = ((a.map zpp).take k).flatten.length + (zpp (a.getD k (zI 0))).length := fun k hk => by
        rw [flat_take_succ _ k (by omega), List.length_append, hmt k hk]
      have hbd : ∀ k, k ≤ a.length → ((a.map zpp).take k).flatten.length ≤ 64 * k := fun k => by
        induction k with
        | zero => intro _; exact Nat.le_refl 0
        | succ k ih =>
          intro hk
          have h1 := ih (by omega)
          have h2 := hlen k (by omega)
          have h3 := zpp_len (z4 _ (getD_mem (zI 0) (show k < a.length by omega)))
          omega
      refine dn (P := fun k => (∀ t ∈ a.take k, zk t < 2) → ExC l E w (d + 2) MX7_flat 121 [some (.ref (w.1 7)), none, some (.int place), some (.ref p), some (.int (nI ((a.map zpp).take k).flatten.length)), some (.int (nI k)), none, none, none, none, none] [] s f Q) a.length ?_ (fun k hk ih => ?_) (fun t ht => by rw [List.take_zero] at ht; cases ht)
      · intro hall
        rw [List.take_length] at hall
        rw [if_pos (List.all_eq_true.mpr fun t ht => decide_eq_true (hall t ht))] at hzf
        rw [List.take_of_length_le (by omega)]
        have hb := hbd a.length (Nat.le_refl _)
        rw [List.take_of_length_le (by omega)] at hb
        refine vX7_flat_121 ⟨v3, q, v4, 4, v6, ?_⟩
        rw [v7]
        refine pk_le a.length a.length (fun _ => ?_) (fun c => by omega) rfl rfl
        refine C_mints hst (by omega) (fun c c64 => ⟨_, rfl, ?_⟩) (fun c => h2 _ hzf (by rw [nI_toInt (by omega)] at c; omega)) (fun c => absurd c (i32_nn _ (by omega)))
        rw [nI_clamp (by omega)] at c64 ⊢
        generalize hN : (a.map zpp).flatten.length = N at *
        refine dn (P := fun k => ∀ fk, IA f N ((a.map zpp).take k).flatten fk → ExC l E w (d + 2) MX7_flat 209 [none, none, none, some (.ref p), none, some (.ref f.1), some (.int (nI ((a.map zpp).take k).flatten.length)), some (.int (nI k)), none, none, none] [] s fk Q) a.length ?_ (fun k hk ih => ?_) (fA f N []) (IA.fa f N [])
        · intro fk hA
          have g := hA.gw
          rw [List.take_of_length_le (by omega)] at hA ⊢
          refine vX7_flat_209 ⟨g.ocE hp1 v3, q, by rw [g.vlE hp1]; exact v4, 4, (g.tgE hq1).trans v6, ?_⟩
          rw [g.lnE hq1, v7]
          refine pk_le a.length a.length (fun _ => h1 _ hzf (by omega) fk (by rw [hN]; exact hA)) (fun c => by omega) rfl rfl
        · intro fk hA
          have g := hA.gw
          have hr := v10 k hk
          have hZk := z4 _ (getD_mem (zI 0) hk)
          have hk2 := hall _ (getD_mem (zI 0) hk)
          obtain ⟨r, e1, e2, e3⟩ := hr.ocl
          have hr1 : r < f.1 := Nat.lt_of_lt_of_le e2 hcbf
          have hfle := flat_len_le (A := a.map zpp) (i := k + 1)
          have hfs := flat_take_succ (a.map zpp) k (by omega)
          rw [hmt k hk] at hfs
          have hl1 := hlen k hk
          have hoc := g.ocE hp1 v3
          have hvl : vl fk p 206 = .ref q := by rw [g.vlE hp1]; exact v4
          have htq := (g.tgE hq1).trans v6
          have hvr : vl fk q k = .ref r := by rw [g.vlE hq1]; exact e1
          have hib : inB (nI k) (ln fk q) := by rw [g.lnE hq1, v7]; exact inB_n hk
          rw [e1] at hr
          have hT : isT fk (.ref r) := (g.rT hcbf hr).isT
          have nxt : ∀ f', IA f N ((a.map zpp).take (k + 1)).flatten f' → (oc f' p 31 ∧ ∃ a82 : Nat, vl f' p 206 = .ref a82 ∧ ∃ t83 : Nat, 4 ≤ t83 ∧ (tg f' a82 = some (.inr t83) ∧ inB (nI k) (ln f' a82) ∧ ∃ a84 : Nat, vl f' a82 k = .ref a84 ∧ EvC l E w (d + 1) MX7_intsOf [.ref a84] s f' (fun o s85 f86 => KP o (fun r => ∃ v87 : Int32, r = some (.int v87) ∧ ∀ y88 : Int32, y88 = nI ((a.map zpp).take k).flatten.length + v87 → ExC l E w (d + 2) MX7_flat 209 [none, none, none, some (.ref p), none, some (.ref f.1), some (.int y88), some (.int (nI k + 1)), none, none, none] [] s85 f86 Q) (fun k => Q (.inr k) s85 f86)))) := by
            intro f' hA2
            have g2 := hA2.gw
            refine ⟨g2.ocE hp1 v3, q, by rw [g2.vlE hp1]; exact v4, 4, by decide, (g2.tgE hq1).trans v6, by rw [g2.lnE hq1, v7]; exact inB_n hk, r, by rw [g2.vlE hq1]; exact e1, ?_⟩
            refine C_intsOf hst (x := zv (a.getD k (zI 0))) (g2.AV hcbf hr hk2 (fun _ => rfl)) ⟨_, rfl, fun y ey => ?_⟩
            rw [nI_add, ← hl1] at ey
            rw [ey, nI_1]
            exact ih f' hA2
          refine vX7_flat_209 ⟨hoc, q, hvl, 4, htq, ?_⟩
          rw [g.lnE hq1, v7, nI_clamp (n := k) (by omega)]
          refine pk_le a.length k (fun c => by omega) (fun _ => ⟨hoc, q, hvl, 4, by decide, htq, hib, r, hvr, hT, ?_⟩) rfl rfl
          by_cases c0 : zk (a.getD k (zI 0)) = 0
          · rw [if_pos c0] at e3
            have hr0 := hr
            rw [zk0 c0] at hr0
            obtain ⟨r', w1, w2, w3, w4⟩ := rcT.whole hr0
            cases w1
            refine br_t ((g.tgE hr1).trans e3.1) ⟨(g.tgE hr1).trans e3.1, g.ocE hr1 e3, _, by rw [g.vlE hr1]; exact w4, hoc, q, hvl, 4, by decide, htq, hib, r, hvr, ?_⟩
            refine C_copyInts hst hA rfl (g.AV hcbf hr hk2 (fun _ => rfl)) hcbf (by omega) (by omega) hcbf (fun f' hA2 => ⟨rfl, nxt f' (by rw [hfs]; exact hA2)⟩)
          · have c1 : zk (a.getD k (zI 0)) = 1 := by omega
            rw [if_neg c0, c1] at e3
            refine br_f (by rw [g.tgE hr1, e3.1]; intro z; cases z) ⟨hoc, q, hvl, 4, by decide, htq, hib, r, hvr, ?_⟩
            refine C_copyInts hst hA rfl (g.AV hcbf hr hk2 (fun z => absurd z c0)) hcbf (by omega) (by omega) hcbf (fun f' hA2 => ⟨rfl, nxt f' (by rw [hfs]; exact hA2)⟩)
      · intro hall
        have hr := v10 k hk
        obtain ⟨r, e1, e2, e3⟩ := hr.ocl
        rw [e1] at hr
        have hb := hbd k (by omega)
        have hl1 := hlen k hk
        have hib : inB (nI k) (ln f q) := by rw [v7]; exact inB_n hk
        refine vX7_flat_121 ⟨v3, q, v4, 4, v6, ?_⟩
        rw [v7, nI_clamp (n := k) (by omega)]
        refine pk_le a.length k (fun c => by omega) (fun _ => ⟨v3, q, v4, 4, by decide, v6, hib, r, e1, hr.isT, ?_⟩) rfl rfl
        have go : zk (a.getD k (zI 0)) < 2 → EvC l E w (d + 1) MX7_intsOf [.ref r] s f (fun o s41 f42 => KP o (fun r => ∃ v43 : Int32, r = some (.int v43) ∧ ∀ y44 : Int32, y44 = nI ((a.map zpp).take k).flatten.length + v43 → ExC l E w (d + 2) MX7_flat 121 [some (.ref (w.1 7)), none, some (.int place), some (.ref p), some (.int y44), some (.int (nI k + 1)), none, none, none, none, none] [] s41 f42 Q) (fun k => Q (.inr k) s41 f42)) := by
          intro hk2
          refine C_intsOf hst (x := zv (a.getD k (zI 0))) ((Gw.rf f).AV hcbf hr hk2 (fun _ => rfl)) ⟨_, rfl, fun y ey => ?_⟩
          rw [nI_add, ← hl1] at ey
          rw [ey, nI_1]
          exact ih (mem_take_succ (x := zI 0) hk hall hk2)
        rcases zk_c (a.getD k (zI 0)) with e | e | e | e
        · rw [if_pos e] at e3
          exact br_f (by rw [e3.1]; intro z; cases z) ⟨v3, q, v4, 4, by decide, v6, hib, r, e1, hr.isT, br_t e3.1 ⟨v3, q, v4, 4, by decide, v6, hib, r, e1, go (by omega)⟩⟩
        · rw [if_neg (by omega), e] at e3
          exact br_t e3.1 ⟨v3, q, v4, 4, by decide, v6, hib, r, e1, go (by omega)⟩
        · rw [if_neg (by omega), e] at e3
          refine br_f (by rw [e3.1]; intro z; cases z) ⟨v3, q, v4, 4, by decide, v6, hib, r, e1, hr.isT, br_f (by rw [e3.1]; intro z; cases z) (C_wrong hst (Q := Q) (h3 (hzf.trans (if_neg fun z => ?_))) (fun _ _ _ => rfl))⟩
          have := of_decide_eq_true (List.all_eq_true.mp z _ (getD_mem (zI 0) hk))
          omega
        · rw [if_neg (by omega), e] at e3
          refine br_f (by rw [e3.1]; intro z; cases z) ⟨v3, q, v4, 4, by decide, v6, hib, r, e1, hr.isT, br_f (by rw [e3.1]; intro z; cases z) (C_wrong hst (Q := Q) (h3 (hzf.trans (if_neg fun z => ?_))) (fun _ _ _ => rfl))⟩
          have := of_decide_eq_true (List.all_eq_true.mp z _ (getD_mem (zI 0) hk))
          omega
    · refine is_n (r3.2 c3) (C_wrong hst (Q := Q) (h3 ?_) (fun _ _ _ => rfl))
      unfold zflat
      rw [if_neg c2, if_neg c3]
theorem C_b16 (hst : l.stackTraces = false) {n md : Nat} {x : Th} {place : Int32} (h : COk E n md [x] s f) (hQ : ∀ o s' f', cop E n md (zbi1 16 x) place s f o s' f' → Q o s' f') : EvC l E w (d + 3) MX7_work [.ref (w.1 7), .int 16, .int place] s f Q := by
  obtain ⟨hx, wx, h26, h83⟩ := h.v1
  obtain ⟨⟨-, -, h40, hmd⟩, ⟨hr, hz, hcb⟩, -, -⟩ := h
  have hz1 : ez E ≤ f.1 := Nat.le_trans hz hcb
  refine EvC.pfrz (eX7_work hst fun y1 ey => ?_)
  rw [h26, nI_pred] at ey
  subst ey
  rw [nI_clamp (by omega)]
  have g := fnew_gw f 29
  have hbud := g.2.2.1
  rw [CZ29] at hbud
  refine ⟨inB_n (by omega), _, rfl, hx.isR, br_f (by decide) (br_f (by decide) (br_f (by decide) (br_f (by decide) (br_f (by decide) (br_f (by decide) (br_f (by decide) (br_t rfl ⟨(by show f.2.1 + 1 + 1 ≤ BM; omega), fun a3 f4 e1 e2 => ?_⟩)))))))⟩
  subst e1 e2
  have hb := zbi1_16 x
  refine C_flat hst g hx wx hcb (by omega) (fun c => hQ _ _ _ (cop.tr (k := 3) (hb.1 c) rfl h40 (by omega))) (fun a c c2 => hQ _ _ _ (cop.tr (k := 2) ((hb.2 a c).trans (if_pos c2)) rfl h40 (by omega))) (fun a c c2 f' hI => ⟨_, rfl, ?_⟩)
  refine C_rowLate hst hI.gw hcb (hI.rI (Nat.le_succ_of_le hz1) rfl) (fun f2 q1 q2 => ⟨rfl, ?_⟩)
  have hw : ZW (zR a) := c2
  exact C_fin hst (parts := 1) (f0 := f) ((hb.2 a c).trans (if_neg (by omega))) (cfr.rf JC n s) q2.2.2.1 q1 (by show ¬ 1 = 0; decide) hw h26 (by omega) h40 hmd (by show _ ≤ 2 * (4 + a.length); omega) hQ
end CFl
