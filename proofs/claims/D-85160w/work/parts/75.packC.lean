/-! THE COMPONENT: packs, tables, rows out of arrays -/
theorem dn {P : Nat → Prop} (n : Nat) (h0 : P n) (hs : ∀ k, k < n → P (k + 1) → P k) : P 0 := by
  have : ∀ m k, k + m = n → P k := by
    intro m
    induction m with
    | zero =>
      intro k hk
      have hk : k = n := hk
      rw [hk]; exact h0
    | succ m ih => intro k hk; exact hs k (by omega) (ih (k + 1) (by omega))
  exact this n 0 (by omega)
theorem zw_bd {t : Th} (h : ZW t) : zb t ≤ 600 ∧ zd t ≤ 4 := by
  rcases zcases h with ⟨v, rfl⟩ | ⟨a, rfl, h1⟩ | ⟨a, rfl, h1, h2, h3⟩ | ⟨l, rfl, h1, h2, h3, h4⟩
  · exact ⟨by show 1 ≤ 600; omega, Nat.zero_le _⟩
  · exact ⟨by show 1 + a.length ≤ 600; omega, Nat.zero_le _⟩
  · exact ⟨by show 1 + a.length + zis a ≤ 600; omega, Nat.zero_le _⟩
  · rw [zb_zP, zd_zP]; exact ⟨h2, by omega⟩
theorem zbsum_le : ∀ (l : List Th), (∀ x ∈ l, ZW x) → (l.map zb).sum ≤ 600 * l.length
  | [], _ => Nat.le_refl 0
  | x :: r, h => by
    rw [List.map_cons, List.sum_cons, List.length_cons]
    have h1 := (zw_bd (h x List.mem_cons_self)).1
    have h2 := zbsum_le r fun y hy => h y (List.mem_cons_of_mem _ hy)
    omega
theorem zdsp_le : ∀ (l : List Th), (∀ x ∈ l, ZW x) → zd (zsp l) ≤ 4
  | [], _ => Nat.zero_le _
  | x :: r, h => by
    rw [zd_cons]
    have h1 := (zw_bd (h x List.mem_cons_self)).2
    have h2 := zdsp_le r fun y hy => h y (List.mem_cons_of_mem _ hy)
    omega
/-- a thing in the making of a pack: an old one, or a new Whole -/
def PE (E : EN) (f0 f : RH) (v : Value) (t : Th) : Prop := rcT f0.2.2.1 (ez E) f0.2.2.2 true t (fun _ => v) ∨ ∃ (p : Nat) (x : Int32), v = .ref p ∧ t = zI x ∧ f0.1 ≤ p ∧ p < f.1 ∧ oc f p 32 ∧ vl f p 209 = .int x
theorem PE.rep {E : EN} {f0 f : RH} {c : Nat} {v : Value} {t : Th} (h : PE E f0 f v t) (hg : Gw f0 f c) (h0 : f0.2.2.2 ≤ f0.1) : rcT f.2.2.1 (ez E) f.1 true t (fun _ => v) := by
  rcases h with h | ⟨p, x, rfl, rfl, h1, h2, h3, h4⟩
  · exact rcT_up (Nat.le_trans h0 hg.1) (hg.rT h0 h)
  · exact ⟨p, vl f p, rfl, h2, by rw [cellv' h3.1, h3.2], h4⟩
theorem PE.grow {E : EN} {f0 f f' : RH} {c : Nat} {v : Value} {t : Th} (h : PE E f0 f v t) (k : Gw f f' c) : PE E f0 f' v t := by
  rcases h with h | ⟨p, x, e1, e2, h1, h2, h3, h4⟩
  · exact Or.inl h
  · exact Or.inr ⟨p, x, e1, e2, h1, Nat.lt_of_lt_of_le h2 k.1, k.ocE h2 h3, by rw [k.vlE h2]; exact h4⟩
theorem PE.set {E : EN} {f0 f : RH} {a j : Nat} {v w : Value} {t : Th} (h : PE E f0 f v t) (ha : ¬ tg f a = some (.inl 32)) : PE E f0 (fset f a j w) v t := by
  rcases h with h | ⟨p, x, e1, e2, h1, h2, h3, h4⟩
  · exact Or.inl h
  · have hne : p ≠ a := fun e => ha (by rw [← e]; exact h3.1)
    obtain ⟨n1, n2, n3⟩ := fset_ne (f := f) (j := j) (v := w) hne
    exact Or.inr ⟨p, x, e1, e2, h1, h2, ⟨n1.trans h3.1, n2.trans h3.2⟩, by rw [n3]; exact h4⟩
theorem PE.tag {E : EN} {f0 f : RH} {c p : Nat} {t : Th} (h : PE E f0 f (.ref p) t) (hg : Gw f0 f c) (h0 : f0.2.2.2 ≤ f0.1) : ∃ k, tg f p = some (.inl k) ∧ k ∈ CKs 4 := by
  obtain ⟨p', e1, e2, e3⟩ := (h.rep hg h0).ocl
  cases e1
  refine ⟨_, e3.1, ?_⟩
  rcases zk_c t with e | e | e | e <;> rw [e] <;> decide
/-- an array of things in the making, at the first new place -/
def PB (E : EN) (f0 : RH) (n : Nat) (T : List Th) (c : Nat) (f : RH) : Prop := Gw f0 f c ∧ f0.1 < f.1 ∧ tg f f0.1 = some (.inr 4) ∧ ln f f0.1 = n ∧ ∀ i, i < T.length → PE E f0 f (vl f f0.1 i) (T.getD i (zI 0))
theorem PB.start (E : EN) (f0 : RH) (n : Nat) : PB E f0 n [] (n + 1) (fnewA f0 4 n) := by
  obtain ⟨c1, c2, c3⟩ := cellv (cell_push f0 (.inr 4, n, fun _ => defaultValue (AT 4)) n)
  exact ⟨Gw.push f0 _ n, Nat.lt_succ_self _, c1, c2, fun i hi => absurd hi (Nat.not_lt_zero i)⟩
theorem PB.grow {E : EN} {f0 f f' : RH} {n c c' : Nat} {T : List Th} (h : PB E f0 n T c f) (k : Gw f f' c') : PB E f0 n T (c + c') f' := by
  obtain ⟨h1, h2, h3, h4, h5⟩ := h
  refine ⟨h1.trans k, Nat.lt_of_lt_of_le h2 k.1, by rw [k.tgE h2]; exact h3, by rw [k.lnE h2]; exact h4, fun i hi => ?_⟩
  rw [k.vlE h2]
  exact (h5 i hi).grow k
theorem PB.put {E : EN} {f0 f : RH} {n c : Nat} {T : List Th} {v : Value} {t : Th} (h : PB E f0 n T c f) (hq : PE E f0 f v t) : PB E f0 n (T ++ [t]) c (fset f f0.1 T.length v) := by
  obtain ⟨h1, h2, h3, h4, h5⟩ := h
  obtain ⟨c1, c2, c3⟩ := fset_tg (j := T.length) (v := v) h3
  have hne : ¬ tg f f0.1 = some (.inl 32) := by rw [h3]; intro z; cases z
  refine ⟨h1.set (Nat.le_refl _), h2, c1, c2.trans h4, fun i hi => ?_⟩
  rw [c3]
  by_cases e : i = T.length
  · rw [if_pos e, e, getD_last]
    exact hq.set hne
  · rw [if_neg e, getD_app1 _ _ (by rw [List.length_append] at hi; have : i < T.length + 1 := hi; omega)]
    exact (h5 i (by rw [List.length_append] at hi; have : i < T.length + 1 := hi; omega)).set hne
theorem PB.le {E : EN} {f0 f : RH} {n c c' : Nat} {T : List Th} (h : PB E f0 n T c f) (hc : c ≤ c' := by omega) : PB E f0 n T c' f := ⟨h.1.le hc, h.2⟩
theorem TB.old {E : EN} {f0 f : RH} {n c b : Nat} {R : List (List Int32)} {v : Value} {r : List Int32} (h : TB E f0 n R c f) (hb : b ≤ f0.1) (hq : rcI f0.2.2.1 (ez E) b v r) : rcI f.2.2.1 (ez E) f.1 v r := rcI_up (Nat.le_trans hb h.1.1) (h.1.rI hb hq)
section CP
variable {l : Launch} {E : EN} {w : CO} {d : Nat} {s : CS} {f : RH} {Q : KO → CS → RH → Prop}
theorem C_whole (hst : l.stackTraces = false) {p : Nat} {x : Int32} (hp : oc f p 32) (hb : f.2.2.2 ≤ p) (hQ : Q (.inl none) s (fset f p 209 (.int x))) : EvC l E w (d + 1) MX35_init [.ref p, .int x] s f Q :=
  eX35_init hst (C_obj hst ⟨rfl, hp, hb, fun f3 e => by rw [e]; exact hQ⟩)
/-- a new Whole -/
theorem newW {E : EN} {f0 f : RH} {c : Nat} (x : Int32) (hg : Gw f0 f c) : PE E f0 (fset (fnew f 32) f.1 209 (.int x)) (.ref f.1) (zI x) ∧ Gw f (fset (fnew f 32) f.1 209 (.int x)) 2 := by
  obtain ⟨c1, c2, c3⟩ := fset_tg (j := 209) (v := .int x) (fnew_new f 32).1
  refine ⟨Or.inr ⟨f.1, x, rfl, rfl, hg.1, Nat.lt_succ_self _, ⟨c1, c2.trans (fnew_new f 32).2⟩, by rw [c3, if_pos rfl]⟩, ((fnew_gw f 32).set (Nat.le_refl _)).le (by decide)⟩
/-- what lies on the pile, as a thing -/
theorem C_asThing (hst : l.stackTraces = false) {f0 : RH} {c i : Nat} {t : Th} (hg : Gw f0 f c) (h0 : f0.2.2.2 ≤ f0.1) (hi : i < 8400) (h : rcV E f0 (s.2.2.1 24 i) (s.2.2.2 25 i) t) (hroom : f.2.1 + 2 ≤ BM) (hQ : ∀ p f', PE E f0 f' (.ref p) t → Gw f f' 2 → Q (.inl (some (.ref p))) s f') : EvC l E w (d + 2) MX3_asThing [.ref (w.1 3), .int (nI i)] s f Q := by
  have hcb : f.2.2.2 ≤ f.1 := by
    have := hg.1
    rw [hg.2.1]; omega
  refine eX3_asThing hst ?_
  rw [nI_clamp (by omega)]
  rcases h.cls with ⟨e0, e1, e2⟩ | ⟨p, e1, e2, e3, e4, e5⟩
  · refine ⟨inB_n hi, _, rfl, by rw [e1]; rfl, fun _ => ⟨?_, fun a3 f4 ea ef => ⟨inB_n hi, ?_⟩⟩, fun a2 ea => by rw [e1] at ea; cases ea⟩
    · show f.2.1 + 1 + 1 ≤ BM
      omega
    · subst ea ef
      obtain ⟨w1, w2⟩ := newW (E := E) (s.2.2.1 24 i) hg
      refine C_whole hst (oc_new f 32) hcb ⟨rfl, hQ _ _ ?_ w2⟩
      rw [zk0 e0, ← e2]
      exact w1
  · refine ⟨inB_n hi, _, rfl, by rw [e1]; rfl, fun z => (by rw [e1] at z; cases z), fun a2 ea => ⟨inB_n hi, _, rfl, by rw [e1]; rfl, ?_⟩⟩
    rw [e1]
    refine hQ p f (Or.inl ?_) ((Gw.rf f).le (by omega))
    rw [← e1]
    exact e5
theorem C_bulk {b p : Nat} {t : Th} (hst : l.stackTraces = false) (hZ : ZW t) (h : rcT f.2.2.1 (ez E) b true t (fun _ => .ref p)) {P : KO → CS → RH → Prop} (hP : P (.inl (some (.int (nI (zb t))))) s f) : ∃ k8 : Nat, oc f p k8 ∧ ((k8 = 29 ∧ EvC l E w (d + 1) MX32_bulk [.ref p] s f P) ∨ (k8 = 30 ∧ EvC l E w (d + 1) MX33_bulk [.ref p] s f P) ∨ (k8 = 31 ∧ EvC l E w (d + 1) MX34_bulk [.ref p] s f P) ∨ (k8 = 32 ∧ EvC l E w (d + 1) MX35_bulk [.ref p] s f P)) := by
  rcases zcases hZ with ⟨v, rfl⟩ | ⟨a, rfl, z1⟩ | ⟨a, rfl, z1, z2, z3⟩ | ⟨ts, rfl, z1, z2, z3, z4⟩
  · obtain ⟨p', e1, e2, e3, e4⟩ := rcT.whole h
    cases e1
    exact ⟨32, e3, Or.inr (Or.inr (Or.inr ⟨rfl, eX35_bulk hst hP⟩))⟩
  · obtain ⟨p', q, e1, e2, e3, e4, e5, e6, e7, e8, e9⟩ := rcT.row h
    cases e1
    refine ⟨29, e3, Or.inl ⟨rfl, eX32_bulk hst ⟨e3, q, e4, 0, e6, ?_⟩⟩⟩
    rw [e7, nI_1l]; exact hP
  · obtain ⟨p', q, e1, e2, e3, e4, e5, e6, e7, e8⟩ := rcT.tab h
    cases e1
    refine ⟨30, e3, Or.inr (Or.inl ⟨rfl, eX33_bulk hst ⟨e3, q, e4, 11, e6, e3, C_ints e3 e4 e6 e7 e8 (by omega) z3 hst ⟨_, rfl, ?_⟩⟩⟩)⟩
    rw [e7, nI_1l, nI_add]; exact hP
  · obtain ⟨p', q, e1, e2, e3, e4, e5, e6, e7, e8, e9, e10⟩ := rcT.pack h
    cases e1
    exact ⟨31, e3, Or.inr (Or.inr (Or.inl ⟨rfl, eX34_bulk hst ⟨e3, _, e9, hP⟩⟩))⟩
theorem C_depth {b p : Nat} {t : Th} (hst : l.stackTraces = false) (hZ : ZW t) (h : rcT f.2.2.1 (ez E) b true t (fun _ => .ref p)) {P : KO → CS → RH → Prop} (hP : P (.inl (some (.int (nI (zd t))))) s f) : ∃ k8 : Nat, oc f p k8 ∧ ((k8 = 29 ∧ EvC l E w d MX31_depth [.ref p] s f P) ∨ (k8 = 30 ∧ EvC l E w d MX31_depth [.ref p] s f P) ∨ (k8 = 31 ∧ EvC l E w d MX34_depth [.ref p] s f P) ∨ (k8 = 32 ∧ EvC l E w d MX31_depth [.ref p] s f P)) := by
  rcases zcases hZ with ⟨v, rfl⟩ | ⟨a, rfl, z1⟩ | ⟨a, rfl, z1, z2, z3⟩ | ⟨ts, rfl, z1, z2, z3, z4⟩
  · obtain ⟨p', e1, e2, e3, e4⟩ := rcT.whole h
    cases e1
    exact ⟨32, e3, Or.inr (Or.inr (Or.inr ⟨rfl, eX31_depth hst hP⟩))⟩
  · obtain ⟨p', q, e1, e2, e3, _⟩ := rcT.row h
    cases e1
    exact ⟨29, e3, Or.inl ⟨rfl, eX31_depth hst hP⟩⟩
  · obtain ⟨p', q, e1, e2, e3, _⟩ := rcT.tab h
    cases e1
    exact ⟨30, e3, Or.inr (Or.inl ⟨rfl, eX31_depth hst hP⟩)⟩
  · obtain ⟨p', q, e1, e2, e3, e4, e5, e6, e7, e8, e9, e10⟩ := rcT.pack h
    cases e1
    exact ⟨31, e3, Or.inr (Or.inr (Or.inl ⟨rfl, eX34_depth hst ⟨e3, _, e8, hP⟩⟩))⟩
/-- an array of things becomes a Pack -/
theorem C_packInit (hst : l.stackTraces = false) {p q b : Nat} {T : List Th} (hp : oc f p 31) (hb : f.2.2.2 ≤ p) (hlt : p < f.1) (hq : tg f q = some (.inr 4)) (hql : ln f q = T.length) (hqb : q < b) (hbp : b ≤ p) (hZ : ∀ t ∈ T, ZW t) (hl : T.length ≤ 64) (hI : ∀ i, i < T.length → rcT f.2.2.1 (ez E) b true (T.getD i (zI 0)) (fun _ => vl f q i)) (hQ : ∀ f', rcT f'.2.2.1 (ez E) f'.1 true (zP T) (fun _ => .ref p) → f'.1 = f.1 → f'.2.1 = f.2.1 → f'.2.2.2 = f.2.2.2 → (∀ a, a ≠ p → f'.2.2.1 a = f.2.2.1 a) → Q (.inl none) s f') : EvC l E w (d + 2) MX34_init [.ref p, .ref q] s f Q := by
  have hne : q ≠ p := by omega
  refine eX34_init hst (C_obj hst ⟨rfl, hp, hb, fun f3 e3 => ?_⟩)
  obtain ⟨c1, c2, c3⟩ := fset_tg (j := 206) (v := .ref q) hp.1
  obtain ⟨n1, n2, n3⟩ := fset_ne (f := f) (j := 206) (v := .ref q) hne
  rw [← e3] at c1 c2 c3 n1 n2 n3
  have hI3 : ∀ i, i < T.length → rcT f3.2.2.1 (ez E) b true (T.getD i (zI 0)) (fun _ => vl f3 q i) := fun i hi => by
    rw [n3, e3]
    exact rcT_setA (hI i hi) hbp
  have hb3 : f3.2.2.2 ≤ p := by rw [e3]; exact hb
  have main : ExC l E w (d + 2) MX34_init 16 [some (.ref p), some (.ref q), some (.int (nI (zd (zsp (T.take 0))))), some (.int (nI (1 + ((T.take 0).map zb).sum))), some (.int (nI 0))] [] s f3 Q := by
    refine dn (P := fun k => ExC l E w (d + 2) MX34_init 16 [some (.ref p), some (.ref q), some (.int (nI (zd (zsp (T.take k))))), some (.int (nI (1 + ((T.take k).map zb).sum))), some (.int (nI k))] [] s f3 Q) T.length ?_ (fun k hk ih => ?_)
    · refine vX34_init_16 ⟨4, n1.trans hq, ?_⟩
      rw [n2, hql]
      refine pk_le T.length T.length (fun _ => ⟨⟨c1, c2.trans hp.2⟩, hb3, fun f5 e5 => ?_⟩) (fun c => by omega) rfl rfl
      obtain ⟨g1, g2, g3⟩ := fset_tg (j := 207) (v := .int (nI (zd (zsp (T.take T.length))) + 1)) c1
      obtain ⟨m1, m2, m3⟩ := fset_ne (f := f3) (j := 207) (v := .int (nI (zd (zsp (T.take T.length))) + 1)) hne
      rw [← e5] at g1 g2 g3 m1 m2 m3
      refine ⟨⟨g1, g2.trans (c2.trans hp.2)⟩, (by rw [e5]; exact hb3), fun f6 e6 => ?_⟩
      obtain ⟨i1, i2, i3⟩ := fset_tg (j := 208) (v := .int (nI (1 + ((T.take T.length).map zb).sum))) g1
      obtain ⟨j1, j2, j3⟩ := fset_ne (f := f5) (j := 208) (v := .int (nI (1 + ((T.take T.length).map zb).sum))) hne
      rw [← e6] at i1 i2 i3 j1 j2 j3
      have ef : f6.1 = f.1 ∧ f6.2.1 = f.2.1 ∧ f6.2.2.2 = f.2.2.2 := by rw [e6, e5, e3]; exact ⟨rfl, rfl, rfl⟩
      have ec : ∀ a, a ≠ p → f6.2.2.1 a = f.2.2.1 a := fun a ha => by
        rw [e6, e5, e3]
        exact (if_neg ha).trans ((if_neg ha).trans (if_neg ha))
      refine hQ f6 ?_ ef.1 ef.2.1 ef.2.2 ec
      refine rcT_pack.mpr ⟨p, vl f6 p, q, vl f6 q, rfl, by rw [ef.1]; exact hlt, ?_, ?_, by rw [ef.1]; omega, ?_, ?_, ?_, fun i hi => ?_⟩
      · rw [cellv' i1, i2, g2, c2, hp.2]
      · rw [i3, if_neg (by decide), g3, if_neg (by decide), c3, if_pos rfl]
      · rw [cellv' (j1.trans (m1.trans (n1.trans hq))), j2, m2, n2, hql]
      · rw [i3, if_neg (by decide), g3, if_pos rfl, List.take_length, nI_1, zd_zP]
      · rw [i3, if_pos rfl, List.take_length, zb_zP, Nat.add_comm]
      · have e : vl f6 q i = vl f q i := by rw [j3, m3, n3]
        rw [e]
        refine rcT_mono (by rw [ef.1]; omega) (fun a ha => ec a (by omega)) _ true _ (hI i hi)
    · have hm : T.getD k (zI 0) ∈ T := getD_mem _ hk
      have hk3 := hI3 k hk
      obtain ⟨a8, ea, eb, eo⟩ := hk3.ocl
      have bz := zbsum_le T hZ
      have hz1 := zw_bd (hZ _ hm)
      have t1 := take_succ_getD T (zI 0) k hk
      have hzd := zdsp_le (T.take k) fun x hx => hZ x (List.mem_of_mem_take hx)
      refine vX34_init_16 ⟨4, n1.trans hq, ?_⟩
      rw [n2, hql, nI_clamp (by omega)]
      refine pk_le T.length k (fun c => by omega) (fun _ => ⟨4, by decide, n1.trans hq, inB_n hk, a8, ea, fun o s1 f2 => o = .inl (some (.int (nI (zd (T.getD k (zI 0)))))) ∧ s1 = s ∧ f2 = f3, ?_, C_depth hst (hZ _ hm) (by rw [ea] at hk3; exact hk3) ⟨rfl, rfl, rfl⟩⟩) rfl rfl
      rintro o s1 f2 ⟨rfl, rfl, rfl⟩
      refine ⟨_, rfl, fun y12 ey => ⟨4, by decide, n1.trans hq, by rw [n2, hql]; exact inB_n hk, a8, ea, fun o s2 f4 => o = .inl (some (.int (nI (zb (T.getD k (zI 0)))))) ∧ s2 = s1 ∧ f4 = f2, ?_, C_bulk hst (hZ _ hm) (by rw [ea] at hk3; exact hk3) ⟨rfl, rfl, rfl⟩⟩⟩
      rintro o s2 f4 ⟨rfl, rfl, rfl⟩
      refine ⟨_, rfl, fun y18 ez' => ?_⟩
      have e12 : y12 = nI (zd (zsp (T.take (k + 1)))) := by
        rw [ey, t1, zd_snoc]
        by_cases c : zd (zsp (T.take k)) < zd (T.getD k (zI 0))
        · rw [if_pos ((nI_ltI (by omega) (by omega)).mpr c), Nat.max_eq_right (by omega)]
        · rw [if_neg (fun z => c ((nI_ltI (by omega) (by omega)).mp z)), Nat.max_eq_left (by omega)]
      have e18 : y18 = nI (1 + ((T.take (k + 1)).map zb).sum) := by
        rw [ez', nI_add, t1, sum_snoc, Nat.add_assoc]
      rw [e12, e18, nI_1]
      exact ih
  exact main
end CP
