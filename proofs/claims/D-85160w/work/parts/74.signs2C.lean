/-! THE COMPONENT: signs on tables -/
theorem rcV.gw {E : EN} {f0 f : RH} {c : Nat} {n : Int32} {v : Value} {t : Th} (h : Gw f0 f c) (hb : f0.2.2.2 ≤ f0.1) (k : rcV E f0 n v t) : rcV E f n v t := by
  have key : ∀ t, RT E f0 v t → RT E f v t := fun t q => by
    show rcT f.2.2.1 (ez E) f.2.2.2 true t _
    rw [h.2.1]
    exact h.rT hb q
  match t, k with
  | .leaf (.inl x), k => exact k
  | .leaf (.inr (.inl a)), k => exact key _ k
  | .leaf (.inr (.inr a)), k => exact key _ k
  | .branch _ _ _, k => exact key _ k
/-- an array of rows in the making, at the first new place -/
def TB (E : EN) (f0 : RH) (n : Nat) (R : List (List Int32)) (c : Nat) (f : RH) : Prop := Gw f0 f c ∧ f0.1 < f.1 ∧ tg f f0.1 = some (.inr 11) ∧ ln f f0.1 = n ∧ ∀ i, i < R.length → rcI f.2.2.1 (ez E) f.1 (vl f f0.1 i) (R.getD i [])
theorem TB.start (E : EN) (f0 : RH) (n : Nat) : TB E f0 n [] (n + 1) (fnewA f0 11 n) := by
  obtain ⟨c1, c2, c3⟩ := cellv (cell_push f0 (.inr 11, n, fun _ => defaultValue (AT 11)) n)
  exact ⟨Gw.push f0 _ n, Nat.lt_succ_self _, c1, c2, fun i hi => absurd hi (Nat.not_lt_zero i)⟩
theorem TB.grow {E : EN} {f0 f f' : RH} {n c c' : Nat} {R : List (List Int32)} (h : TB E f0 n R c f) (k : Gw f f' c') : TB E f0 n R (c + c') f' := by
  obtain ⟨h1, h2, h3, h4, h5⟩ := h
  refine ⟨h1.trans k, Nat.lt_of_lt_of_le h2 k.1, by rw [k.tgE h2]; exact h3, by rw [k.lnE h2]; exact h4, fun i hi => ?_⟩
  rw [k.vlE h2]
  exact rcI_up k.1 (k.rI (Nat.le_refl _) (h5 i hi))
theorem TB.put {E : EN} {f0 f : RH} {n c q : Nat} {R : List (List Int32)} {r : List Int32} (h : TB E f0 n R c f) (hq : rcI f.2.2.1 (ez E) f.1 (.ref q) r) : TB E f0 n (R ++ [r]) c (fset f f0.1 R.length (.ref q)) := by
  obtain ⟨h1, h2, h3, h4, h5⟩ := h
  obtain ⟨c1, c2, c3⟩ := fset_tg (j := R.length) (v := .ref q) h3
  have hne : ¬ tg f f0.1 = some (.inr 0) := by rw [h3]; intro z; cases z
  refine ⟨h1.set (Nat.le_refl _), h2, c1, c2.trans h4, fun i hi => ?_⟩
  rw [c3]
  by_cases e : i = R.length
  · rw [if_pos e, e, getD_last]
    exact rcI_set hq hne
  · rw [if_neg e, getD_app1 _ _ (by rw [List.length_append] at hi; have : i < R.length + 1 := hi; omega)]
    exact rcI_set (h5 i (by rw [List.length_append] at hi; have : i < R.length + 1 := hi; omega)) hne
theorem TB.le {E : EN} {f0 f : RH} {n c c' : Nat} {R : List (List Int32)} (h : TB E f0 n R c f) (hc : c ≤ c' := by omega) : TB E f0 n R c' f := ⟨h.1.le hc, h.2⟩
theorem zallS_noneC {l : List (Option (List Int32))} : none ∈ l → zallS l = none := by
  induction l with
  | nil => intro h; cases h
  | cons x r ih =>
    intro h
    cases x with
    | none => rfl
    | some a =>
      rcases List.mem_cons.mp h with h | h
      · cases h
      · show (zallS r).map _ = none
        rw [ih h]; rfl
theorem zallS_someC {l : List (Option (List Int32))} {a : List (List Int32)} (h : l = a.map some) : zallS l = some a := by
  subst h
  induction a with
  | nil => rfl
  | cons x r ih =>
    show (zallS (r.map some)).map _ = _
    rw [ih]; rfl
section CT
variable {l : Launch} {E : EN} {w : CO} {d : Nat} {s : CS} {f : RH} {Q : KO → CS → RH → Prop}
/-- a thing's size, asked of the object -/
theorem C_size {b p : Nat} {t : Th} (hst : l.stackTraces = false) (h : rcT f.2.2.1 (ez E) b true t (fun _ => .ref p)) {P : KO → CS → RH → Prop} (hP : P (.inl (some (.int (nI (zn t))))) s f) : ∃ k8 : Nat, oc f p k8 ∧ ((k8 = 29 ∧ EvC l E w d MX32_size [.ref p] s f P) ∨ (k8 = 30 ∧ EvC l E w d MX33_size [.ref p] s f P) ∨ (k8 = 31 ∧ EvC l E w d MX34_size [.ref p] s f P) ∨ (k8 = 32 ∧ EvC l E w d MX35_size [.ref p] s f P)) := by
  match t, h, hP with
  | .leaf (.inl _), h, hP =>
    obtain ⟨p', e1, e2, e3, e4⟩ := rcT.whole h
    cases e1
    exact ⟨32, e3, Or.inr (Or.inr (Or.inr ⟨rfl, eX35_size hst hP⟩))⟩
  | .leaf (.inr (.inl a)), h, hP =>
    obtain ⟨p', q, e1, e2, e3, e4, e5, e6, e7, e8, e9⟩ := rcT.row h
    cases e1
    refine ⟨29, e3, Or.inl ⟨rfl, eX32_size hst ⟨e3, q, e4, 0, e6, ?_⟩⟩⟩
    rw [e7]; exact hP
  | .leaf (.inr (.inr a)), h, hP =>
    obtain ⟨p', q, e1, e2, e3, e4, e5, e6, e7, e8⟩ := rcT.tab h
    cases e1
    refine ⟨30, e3, Or.inr (Or.inl ⟨rfl, eX33_size hst ⟨e3, q, e4, 11, e6, ?_⟩⟩)⟩
    rw [e7]; exact hP
  | .branch k s' e, h, hP =>
    obtain ⟨p', k', q, m, h1, h2, h3, h4, h5, h6, h7⟩ := h
    obtain ⟨c1, c2, c3⟩ := cellv h3
    obtain ⟨g1, g2, g3⟩ := cellv h6
    cases h1
    refine ⟨31, ⟨c1, c2⟩, Or.inr (Or.inr (Or.inl ⟨rfl, eX34_size hst ⟨⟨c1, c2⟩, q, by rw [c3]; exact h4, 4, g1, ?_⟩⟩))⟩
    rw [g2]; exact hP
/-- a thing's row -/
theorem C_rowOf (hst : l.stackTraces = false) {x : Lf} {v : Value} {n : Int32} {k : Nat} (h : rcV E f n v (.leaf x)) (hk : ∀ a, x = .inr (.inr a) → k < a.length ∧ a.length < 2 ^ 31) (hQ : ∀ y, rcO f (ez E) f.2.2.2 y (zrw x k) → Q (.inl (some y)) s f) : EvC l E w d MX5_rowOf [v, .int (nI k)] s f Q := by
  refine eX5_rowOf h.isR hst ⟨h.isT, fun a2 e t2 => ?_, fun n2 => ⟨h.isT, fun a7 e t7 => ?_, fun n7 => ?_⟩⟩
  · match x, h, hk, hQ with
    | .inl i, h, _, _ => rw [h.1] at e; cases e
    | .inr (.inl a), h, _, _ =>
      obtain ⟨p', q, e1, e2, e3, _⟩ := rcT.row h
      rw [e] at e1
      cases e1
      rw [e3.1] at t2
      cases t2
    | .inr (.inr a), h, hk, hQ =>
      obtain ⟨hk1, hk2⟩ := hk a rfl
      obtain ⟨p', q, e1, e2, e3, e4, e5, e6, e7, e8⟩ := rcT.tab h
      rw [e] at e1
      cases e1
      have hr := e8 k hk1
      obtain ⟨r, g1, g2⟩ := hr.vw
      refine ⟨t2, e3, q, e4, 11, by decide, e6, by rw [e7]; exact inB_n hk1, r, by rw [nI_clamp (by omega)]; exact g1, hQ _ ?_⟩
      rw [← g1]
      exact hr
  · match x, h, hk, hQ with
    | .inl i, h, _, _ => rw [h.1] at e; cases e
    | .inr (.inl a), h, _, hQ =>
      obtain ⟨p', q, e1, e2, e3, e4, e5, e6, e7, e8, e9⟩ := rcT.row h
      rw [e] at e1
      cases e1
      exact ⟨t7, e3, q, e4, hQ _ e9⟩
    | .inr (.inr a), h, _, _ =>
      obtain ⟨p', q, e1, e2, e3, _⟩ := rcT.tab h
      rw [e] at e1
      cases e1
      rw [e3.1] at t7
      cases t7
  · match x, h, hk, hQ with
    | .inl i, h, _, hQ => exact hQ _ rfl
    | .inr (.inl a), h, _, _ =>
      obtain ⟨p', q, e1, e2, e3, _⟩ := rcT.row h
      exact absurd e3.1 (n7 p' e1)
    | .inr (.inr a), h, _, _ =>
      obtain ⟨p', q, e1, e2, e3, _⟩ := rcT.tab h
      exact absurd e3.1 (n2 p' e1)
/-- an array of rows becomes a Table -/
theorem C_tabEnd (hst : l.stackTraces = false) {f0 : RH} {n c p : Nat} {R : List (List Int32)} (hT : TB E f0 n R c f) (hR : R.length = n) (hp : oc f p 30) (hpb : f.2.2.2 ≤ p) (hpl : p < f.1) (hp0 : f0.1 ≤ p) (hQ : ∀ f', rcT f'.2.2.1 (ez E) f'.1 true (zT R) (fun _ => .ref p) → Gw f0 f' (c + (3 * n + 1)) → Q (.inl none) s f') : EvC l E w (d + 1) MX33_init [.ref p, .ref f0.1] s f Q := by
  obtain ⟨h1, h2, h3, h4, h5⟩ := hT
  refine C_tab hst hp hpb hpl h3 (h4.trans hR.symm) h2 h5 (fun f' e q => hQ f' q ?_)
  rw [e, hR]
  exact (h1.set hp0).chg
theorem C_tables (hst : l.stackTraces = false) {g v u : Int32} (hs : g ∈ zSg) {x y : Lf} {vx vy : Value} {T : List (List Int32)} (hx : rcV E f v vx (.leaf x)) (hy : rcV E f u vy (.leaf y)) (hT : x = .inr (.inr T) ∨ (zisT x = false ∧ y = .inr (.inr T))) (hT2 : T.length ≤ 20) (hT3 : zis T ≤ 200) (hT4 : ∀ r ∈ T, r.length ≤ 64)
    (hlx : ∀ k l, k < T.length → zrw x k = some l → l.length = (T.getD k []).length) (hly : ∀ k l, k < T.length → zrw y k = some l → l.length = (T.getD k []).length) (hxy : ∀ a, x = .inr (.inr a) → a.length = T.length) (hyy : ∀ a, y = .inr (.inr a) → a.length = T.length)
    (hroom : f.2.1 + 1000 ≤ BM) (hz : f.2.2.2 ≤ f.1) (hz0 : ez E ≤ f.1)
    (h1 : ∀ R p f', zallS ((List.range T.length).map (fun k => zr2 g v u (zrw x k) (zrw y k))) = some R → R.length = T.length → zis R = zis T → (∀ r ∈ R, r.length ≤ 64) → rcT f'.2.2.1 (ez E) f'.1 true (zT R) (fun _ => .ref p) → Gw f f' (5 * T.length + zis T + 5) → Q (.inl (some (.ref p))) s f')
    (h2 : zallS ((List.range T.length).map (fun k => zr2 g v u (zrw x k) (zrw y k))) = none → ∀ f', Gw f f' 540 → Q (.inr 36) s f') : EvC l E w (d + 2) MX5_tables [.int g, vx, .int v, vy, .int u] s f Q := by
  have main : ∀ m (R : List (List Int32)) fk, R.length + m = T.length → TB E f T.length R (T.length + 1 + (R.length + zis (T.take R.length))) fk → (∀ k, k < R.length → zr2 g v u (zrw x k) (zrw y k) = some (R.getD k [])) → zis R = zis (T.take R.length) → (∀ r ∈ R, r.length ≤ 64) → ExC l E w (d + 2) MX5_tables 30 [some (.int g), some vx, some (.int v), some vy, some (.int u), some (.int (nI T.length)), some (.ref f.1), some (.int (nI R.length))] [] s fk Q := by
    intro m
    induction m with
    | zero =>
      intro R fk hm hTB hR hzR h64
      have hm : R.length = T.length := hm
      rw [hm, List.take_of_length_le (Nat.le_refl _)] at hzR
      rw [hm, List.take_of_length_le (Nat.le_refl _)] at hTB
      refine vX5_tables_30 hx.isR hy.isR (pk_le T.length R.length (fun _ => ⟨?_, fun a18 f19 e1 e2 => ?_⟩) (fun c => by omega) rfl rfl)
      · have := hTB.1.2.2.1
        show fk.2.1 + 1 + 2 ≤ BM
        omega
      · subst e1 e2
        have hTB2 := hTB.grow (fnew_gw fk 30)
        have hnn := fnew_new fk 30
        have hcb : (fnew fk 30).2.2.2 ≤ fk.1 := by
          show fk.2.2.2 ≤ fk.1
          have := hTB.1.1
          rw [hTB.1.2.1]; omega
        refine C_tabEnd hst hTB2 hm hnn hcb (Nat.lt_succ_self _) hTB.1.1 (fun f' q1 q2 => ⟨rfl, h1 R fk.1 f' ?_ hm hzR h64 q1 (q2.le ?_)⟩)
        · refine zallS_someC ?_
          refine List.ext_getElem (by rw [List.length_map, List.length_map, List.length_range, hm]) (fun i hi1 hi2 => ?_)
          rw [List.getElem_map, List.getElem_map, List.getElem_range, hR i (by rw [List.length_map] at hi2; exact hi2), getD_lt _ (by rw [List.length_map] at hi2; exact hi2)]
        · have : CZ 30 = 2 := by decide
          rw [this]; omega
    | succ m ih =>
      intro R fk hm hTB hR hzR h64
      have hk : R.length < T.length := by omega
      have hcb : fk.2.2.2 ≤ fk.1 := by
        have := hTB.1.1
        rw [hTB.1.2.1]; omega
      have hx' := hx.gw hTB.1 hz
      have hy' := hy.gw hTB.1 hz
      have htl : (T.getD R.length []).length ≤ 64 := hT4 _ (by rw [getD_lt [] hk]; exact List.getElem_mem hk)
      have htk : T.take (R.length + 1) = T.take R.length ++ [T.getD R.length []] := take_succ_getD T [] R.length hk
      have hzk : zis (T.take (R.length + 1)) = zis (T.take R.length) + (T.getD R.length []).length := by rw [htk, zis_app, zis_cons, zis_nil]; omega
      have hzle := zis_take_le T (R.length + 1)
      have hbud := hTB.1.2.2.1
      refine vX5_tables_30 hx.isR hy.isR (pk_le T.length R.length (fun c => by omega) (fun _ => ?_) rfl rfl)
      refine C_rowOf hst hx' (fun a e => by have := hxy a e; omega) (fun yx hyx => ⟨yx, rfl, rcO.isR hyx, ?_⟩)
      refine C_rowOf hst hy' (fun a e => by have := hyy a e; omega) (fun yy hyy' => ⟨yy, rfl, rcO.isR hyy', ?_⟩)
      have up : ∀ {v : Value} {p : Option (List Int32)}, rcO fk (ez E) fk.2.2.2 v p → rcO fk (ez E) fk.1 v p := by
        intro v p h
        cases p with
        | none => exact h
        | some l => exact rcI_up hcb h
      have hone : zrw x R.length ≠ none ∨ zrw y R.length ≠ none := by
        rcases hT with h | ⟨_, h⟩
        · left; rw [h]; intro z; cases z
        · right; rw [h]; intro z; cases z
      refine C_rows hst hs (n := (T.getD R.length []).length) (up hyx) (up hyy') (fun l e => hlx _ l hk e) (fun l e => hly _ l hk e) hone htl (by omega) hcb (fun L eL hL => ?_) (fun eN f' q => ?_)
      · have hgw := fA_gw fk (T.getD R.length []).length L
        have hTB2 := hTB.grow hgw
        have hr := fA_rI (E := E) fk (T.getD R.length []).length L (Nat.le_trans hz0 hTB.1.1) hL
        obtain ⟨_, _, t1⟩ := hTB2.2
        refine ⟨fk.1, rfl, hTB2.2.2.1, (fA_tg fk _ L).1, Nat.le_trans hz0 hTB.1.1, by rw [hTB2.2.2.2.1]; exact inB_n hk, ?_, fun f31 e => ?_⟩
        · rw [hTB2.1.2.1]; exact hz
        · rw [nI_clamp (by omega)] at e
          rw [e, nI_1]
          have hTB3 := hTB2.put hr
          have hl1 : (R ++ [L]).length = R.length + 1 := by rw [List.length_append]; rfl
          have := ih (R ++ [L]) _ (by omega) (hTB3.le (c' := T.length + 1 + ((R ++ [L]).length + zis (T.take (R ++ [L]).length))) (by rw [hl1, hzk]; omega)) (fun k hk' => ?_) (by rw [hl1, hzk, zis_app, zis_cons, zis_nil, hzR, hL]; omega) (fun r hr' => ?_)
          · rw [hl1] at this
            exact this
          · rw [hl1] at hk'
            by_cases e2 : k = R.length
            · rw [e2, getD_last]; exact eL
            · rw [getD_app1 _ _ (by omega)]; exact hR k (by omega)
          · rcases List.mem_append.mp hr' with h | h
            · exact h64 r h
            · rcases List.mem_cons.mp h with rfl | h
              · omega
              · cases h
      · refine h2 (zallS_noneC (List.mem_map.mpr ⟨R.length, List.mem_range.mpr hk, eN⟩)) f' ((hTB.1.trans q).le (by omega))
  have hm0 := main T.length [] (fnewA f 11 T.length) (by show 0 + T.length = T.length; omega) ((TB.start E f T.length).le (by omega)) (fun k hk => absurd hk (Nat.not_lt_zero k)) (by rw [List.length_nil, List.take_zero]) (fun r hr => by cases hr)
  refine eX5_tables hx.isR hy.isR hst ⟨hx.isT, fun a2 e t2 => ?_, fun n2 => ?_⟩
  · match x, hx, hT, hxy with
    | .inl i, hx, _, _ => rw [hx.1] at e; cases e
    | .inr (.inl a), hx, _, _ =>
      obtain ⟨p', q, e1, e2, e3, _⟩ := rcT.row hx
      rw [e] at e1
      cases e1
      rw [e3.1] at t2
      cases t2
    | .inr (.inr a), hx, hT, hxy =>
      have hl := hxy a rfl
      subst e
      refine ⟨fun o s1 f2 => o = .inl (some (.int (nI a.length))) ∧ s1 = s ∧ f2 = f, ?_, C_size hst hx ⟨rfl, rfl, rfl⟩⟩
      rintro o s1 f2 ⟨rfl, rfl, rfl⟩
      rw [hl]
      refine ⟨_, rfl, i32_nn _ (by omega), by rw [nI_clamp (by omega)]; omega, (by rw [nI_clamp (by omega)]; show f2.2.1 + 1 + T.length ≤ BM; omega), fun a6 f7 e1 e2 => ?_⟩
      subst e1 e2
      rw [nI_clamp (by omega)]
      exact hm0
  · rcases hT with h | ⟨_, h⟩
    · subst h
      obtain ⟨p', q, e1, e2, e3, _⟩ := rcT.tab hx
      exact absurd e3.1 (n2 p' e1)
    · subst h
      obtain ⟨p', q, e1, e2, e3, _⟩ := rcT.tab hy
      subst e1
      refine ⟨p', rfl, fun o s1 f2 => o = .inl (some (.int (nI T.length))) ∧ s1 = s ∧ f2 = f, ?_, C_size hst hy ⟨rfl, rfl, rfl⟩⟩
      rintro o s1 f2 ⟨rfl, rfl, rfl⟩
      refine ⟨_, rfl, i32_nn _ (by omega), by rw [nI_clamp (by omega)]; omega, (by rw [nI_clamp (by omega)]; show f2.2.1 + 1 + T.length ≤ BM; omega), fun a6 f7 e1 e2 => ?_⟩
      subst e1 e2
      rw [nI_clamp (by omega)]
      exact hm0
end CT
