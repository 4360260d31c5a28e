/-! THE COMPONENT: Maker's rowOf, tableOf, packOf, table, pack, ints -/
theorem zgtT (R : List (List Int32)) : zgt (zT R) = (decide (20 < R.length) || decide (200 < zis R)) := rfl
theorem zgtP (T : List Th) : zgt (zP T) = (decide (20 < T.length) || decide (4 < zd (zP T)) || decide (600 < zb (zP T))) := by
  show (decide (20 < (zl (zsp T)).length) || _ || _) = _
  rw [zl_zsp]; rfl
theorem CZ29 : CZ 29 = 1 := by decide
theorem CZ30 : CZ 30 = 2 := by decide
theorem CZ31 : CZ 31 = 3 := by decide
theorem CZ32 : CZ 32 = 1 := by decide
/-- what an order finds -/
def COk (E : EN) (n md : Nat) (A : List Th) (s : CS) (f : RH) : Prop := (s.1 26 = nI (n + A.length) ∧ n + A.length ≤ 8380 ∧ s.1 40 = nI md ∧ md ≤ 3000) ∧ (f.2.1 + 2000 ≤ BM ∧ ez E ≤ f.2.2.2 ∧ f.2.2.2 ≤ f.1) ∧ (∀ t ∈ A, ZW t) ∧ ∀ i, i < A.length → rcV E f (s.2.2.1 24 (n + i)) (s.2.2.2 25 (n + i)) (A.getD i (zI 0))
section CM
variable {l : Launch} {E : EN} {w : CO} {d : Nat} {s : CS} {f : RH} {Q : KO → CS → RH → Prop}
theorem C_table (hst : l.stackTraces = false) {q : Nat} {place : Int32} {R : List (List Int32)} (hq : tg f q = some (.inr 11)) (hql : ln f q = R.length) (hqb : q < f.1) (hI : ∀ i, i < R.length → rcI f.2.2.1 (ez E) f.1 (vl f q i) (R.getD i [])) (hR : R.length ≤ 100) (hr : ∀ r ∈ R, r.length ≤ 64) (hroom : f.2.1 + 3 + (3 * R.length + 1) ≤ BM) (hcb : f.2.2.2 ≤ f.1)
    (h1 : zgt (zT R) = false → ∀ f', rcT f'.2.2.1 (ez E) f'.1 true (zT R) (fun _ => .ref f.1) → Gw f f' (3 * R.length + 4) → Q (.inl (some (.ref f.1))) s f')
    (h2 : zgt (zT R) = true → ∀ f', Gw f f' (3 * R.length + 4) → Q (.inr 9) (cwrong s 2 place) f') : EvC l E w (d + 2) MX6_table [.ref (w.1 6), .ref q, .int place] s f Q := by
  refine eX6_table hst ⟨?_, fun a1 f2 e1 e2 => ?_⟩
  · show f.2.1 + 1 + 2 ≤ BM
    omega
  · subst e1 e2
    have g := fnew_gw f 30
    refine C_tab hst (fnew_new f 30) hcb (Nat.lt_succ_self _) ((g.tgE hqb).trans hq) ((g.lnE hqb).trans hql) (Nat.lt_succ_of_lt hqb) (fun i hi => ?_) (fun f' e q1 => ?_)
    · rw [g.vlE hqb]
      exact rcI_up (Nat.le_succ _) (g.rI (Nat.le_refl _) (hI i hi))
    · have gw : Gw f f' (3 * R.length + 4) := by
        rw [e]
        exact ((g.set (Nat.le_refl _)).chg).le (by rw [CZ30]; omega)
      obtain ⟨p', q', t1, t2, t3, t4, t5, t6, t7, t8⟩ := rcT.tab q1
      cases t1
      refine ⟨rfl, 11, (gw.tgE hqb).trans hq, ?_⟩
      rw [gw.lnE hqb, hql]
      rw [zgtT] at h1 h2
      refine pk_lt 20 R.length (fun c => ?_) (fun c => ⟨t3, ?_⟩) rfl rfl
      · exact C_wrong hst (Q := Q) (h2 (by rw [decide_eq_true c]; rfl) f' gw) (fun _ _ _ => rfl)
      · refine C_ints t3 t4 t6 t7 t8 (by omega) hr hst ⟨_, rfl, ?_⟩
        have hz := zis_le hr
        refine pk_le (zis R) 200 (fun c2 => h1 ?_ f' q1 gw) (fun c2 => C_wrong hst (Q := Q) (h2 ?_ f' gw) (fun _ _ _ => rfl)) rfl rfl
        · rw [decide_eq_false (by omega), decide_eq_false (by omega)]; rfl
        · rw [decide_eq_true c2, Bool.or_true]
theorem C_pack (hst : l.stackTraces = false) {q : Nat} {place : Int32} {T : List Th} (hq : tg f q = some (.inr 4)) (hql : ln f q = T.length) (hqb : q < f.1) (hI : ∀ i, i < T.length → rcT f.2.2.1 (ez E) f.1 true (T.getD i (zI 0)) (fun _ => vl f q i)) (hZ : ∀ t ∈ T, ZW t) (hl : T.length ≤ 64) (hroom : f.2.1 + 4 ≤ BM) (hcb : f.2.2.2 ≤ f.1)
    (h1 : zgt (zP T) = false → ∀ f', rcT f'.2.2.1 (ez E) f'.1 true (zP T) (fun _ => .ref f.1) → Gw f f' 4 → Q (.inl (some (.ref f.1))) s f')
    (h2 : zgt (zP T) = true → ∀ f', Gw f f' 4 → Q (.inr 9) (cwrong s 2 place) f') : EvC l E w (d + 3) MX6_pack [.ref (w.1 6), .ref q, .int place] s f Q := by
  refine eX6_pack hst ⟨?_, fun a1 f2 e1 e2 => ?_⟩
  · show f.2.1 + 1 + 3 ≤ BM
    omega
  · subst e1 e2
    have g := fnew_gw f 31
    refine C_packInit hst (b := f.1) (fnew_new f 31) hcb (Nat.lt_succ_self _) ((g.tgE hqb).trans hq) ((g.lnE hqb).trans hql) hqb (Nat.le_refl _) hZ hl (fun i hi => ?_) (fun f' q1 e1 e2 e3 e4 => ?_)
    · rw [g.vlE hqb]
      exact g.rT (Nat.le_refl _) (hI i hi)
    · have gw : Gw f f' 4 := ⟨by rw [e1]; exact Nat.le_succ _, by rw [e3]; rfl, by rw [e2]; exact Nat.le_of_eq (by show f.2.1 + (CZ 31 + 1) = _; rw [CZ31]), fun a ha => (e4 a (by omega)).trans (g.2.2.2 a ha)⟩
      obtain ⟨p', q', t1, t2, t3, t4, t5, t6, t7, t8, t9, t10⟩ := rcT.pack q1
      cases t1
      refine ⟨rfl, 4, (gw.tgE hqb).trans hq, ?_⟩
      rw [gw.lnE hqb, hql]
      rw [zgtP] at h1 h2
      have hzd : zd (zP T) ≤ 5 := by rw [zd_zP]; have := zdsp_le T hZ; omega
      have hzb : zb (zP T) ≤ 60000 := by rw [zb_zP]; have := zbsum_le T hZ; omega
      refine pk_lt 20 T.length (fun c => ?_) (fun c => ⟨t3, ?_⟩) rfl rfl
      · exact C_wrong hst (Q := Q) (h2 (by rw [decide_eq_true c]; rfl) f' gw) (fun _ _ _ => rfl)
      · refine eX34_depth hst ⟨t3, _, t8, _, rfl, ?_⟩
        refine pk_lt 4 (zd (zP T)) (fun c2 => ?_) (fun c2 => ⟨t3, ?_⟩) rfl rfl
        · exact C_wrong hst (Q := Q) (h2 (by rw [decide_eq_true c2, Bool.or_true]; rfl) f' gw) (fun _ _ _ => rfl)
        · refine eX34_bulk hst ⟨t3, _, t9, _, rfl, ?_⟩
          refine pk_le (zb (zP T)) 600 (fun c3 => h1 ?_ f' q1 gw) (fun c3 => C_wrong hst (Q := Q) (h2 ?_ f' gw) (fun _ _ _ => rfl)) rfl rfl
          · rw [decide_eq_false (by omega), decide_eq_false (by omega), decide_eq_false (by omega)]; rfl
          · rw [decide_eq_true c3, Bool.or_true]
/-- a new Row of an array of INTS -/
theorem C_newRow (hst : l.stackTraces = false) {q : Nat} {V : List Int32} {K : Nat → CS → RH → Prop} {B : Nat → CS → RH → Prop} (hI : rcI f.2.2.1 (ez E) f.1 (.ref q) V) (hroom : f.2.1 + 2 ≤ BM) (hcb : f.2.2.2 ≤ f.1) (hK : ∀ f', rcT f'.2.2.1 (ez E) f'.1 true (zR V) (fun _ => .ref f.1) → Gw f f' 2 → K f.1 s f') : rmF E f 1 1 ∧ ∀ (a5 : Nat) (f6 : RH), a5 = f.1 → f6 = fnew f 29 → EvC l E w (d + 1) MX32_init [.ref a5, .ref q] s f6 (fun o s7 f8 => KP o (fun r => r = none ∧ K a5 s7 f8) (fun k => B k s7 f8)) := by
  refine ⟨?_, fun a5 f6 e1 e2 => ?_⟩
  · show f.2.1 + 1 + 1 ≤ BM
    omega
  · subst e1 e2
    have g := fnew_gw f 29
    refine C_row hst (fnew_new f 29) hcb (Nat.lt_succ_self _) (rcI_up (Nat.le_succ _) (g.rI (Nat.le_refl _) hI)) (fun f' e q1 => ⟨rfl, hK f' q1 ?_⟩)
    rw [e]
    exact (g.set (Nat.le_refl _)).le (by rw [CZ29]; omega)
/-- a new Table of an array of rows -/
theorem C_newTab (hst : l.stackTraces = false) {f0 : RH} {n c : Nat} {R : List (List Int32)} {K : Nat → CS → RH → Prop} {B : Nat → CS → RH → Prop} (hT : TB E f0 n R c f) (hR : R.length = n) (hroom : f.2.1 + 3 ≤ BM) (h0 : f0.2.2.2 ≤ f0.1) (hK : ∀ p f', rcT f'.2.2.1 (ez E) f'.1 true (zT R) (fun _ => .ref p) → Gw f0 f' (c + (3 * n + 4)) → K p s f') : rmF E f 1 2 ∧ ∀ (a5 : Nat) (f6 : RH), a5 = f.1 → f6 = fnew f 30 → EvC l E w (d + 1) MX33_init [.ref a5, .ref f0.1] s f6 (fun o s7 f8 => KP o (fun r => r = none ∧ K a5 s7 f8) (fun k => B k s7 f8)) := by
  refine ⟨?_, fun a5 f6 e1 e2 => ?_⟩
  · show f.2.1 + 1 + 2 ≤ BM
    omega
  · subst e1 e2
    have hcb : (fnew f 30).2.2.2 ≤ f.1 := by
      show f.2.2.2 ≤ f.1
      have := hT.1.1
      rw [hT.1.2.1]; omega
    exact C_tabEnd hst (hT.grow (fnew_gw f 30)) hR (fnew_new f 30) hcb (Nat.lt_succ_self _) hT.1.1 (fun f' q1 q2 => ⟨rfl, hK _ f' q1 (q2.le (by rw [CZ30]; omega))⟩)
theorem C_mrow (hst : l.stackTraces = false) {fr n : Nat} {place : Int32} {V : List Int32} (hn : V.length = n) (hfr : fr + n ≤ 8400) (hv : ∀ i, i < n → s.2.2.1 24 (fr + i) = V.getD i 0) (hroom : f.2.1 + 70 ≤ BM) (hcb : f.2.2.2 ≤ f.1) (hz : ez E ≤ f.1)
    (h1 : n ≤ 64 → ∀ p f', rcT f'.2.2.1 (ez E) f'.1 true (zR V) (fun _ => .ref p) → Gw f f' (n + 3) → Q (.inl (some (.ref p))) s f') (h2 : 64 < n → Q (.inr 9) (cwrong s 2 place) f) : EvC l E w (d + 2) MX6_rowOf [.ref (w.1 6), .int (nI fr), .int (nI n), .int place] s f Q := by
  refine eX6_rowOf hst (pk_le n 64 (fun c => ?_) (fun c => C_wrong hst (Q := Q) (h2 c) (fun _ _ _ => rfl)) rfl rfl)
  rw [nI_clamp (by omega)]
  refine ⟨i32_nn n (by omega), by omega, (by show f.2.1 + 1 + n ≤ BM; omega), fun a1 f2 e1 e2 => ?_⟩
  subst e1 e2
  rw [fnewA0]
  refine dn (P := fun k => ExC l E w (d + 2) MX6_rowOf 24 [some (.ref (w.1 6)), some (.int (nI fr)), some (.int (nI n)), none, some (.ref f.1), some (.int (nI k))] [] s (fA f n (V.take k)) Q) n ?_ (fun k hk ih => ?_)
  · refine vX6_rowOf_24 (pk_le n n (fun _ => ?_) (fun c => by omega) rfl rfl)
    rw [List.take_of_length_le (by omega)]
    have g := fA_gw f n V
    refine C_newRow hst (fA_rI f n V hz hn) (by have := g.2.2.1; omega) (Nat.le_succ_of_le hcb) (fun f' q1 q2 => h1 c _ f' q1 ((g.trans q2).le (by omega)))
  · refine vX6_rowOf_24 (pk_le n k (fun c => by omega) (fun _ => ?_) rfl rfl)
    have hl : (V.take k).length = k := by rw [List.length_take]; omega
    rw [nI_add, nI_clamp (by omega), nI_clamp (by omega), hv k hk]
    refine ⟨inB_n (by omega), (fA_tg f n _).1, (by rw [(fA_tg f n _).2.1]; exact inB_n hk), hcb, fun f9 e => ?_⟩
    have := fA_snoc f n (V.take k) (V.getD k 0)
    rw [hl] at this
    rw [e, this, ← take_succ_getD V 0 k (by omega), nI_1]
    exact ih
theorem C_mtab (hst : l.stackTraces = false) {fr n : Nat} {place : Int32} {R : List (List Int32)} (hn : R.length = n) (hfr : fr + n ≤ 8400) (hv : ∀ i, i < n → RT E f (s.2.2.2 25 (fr + i)) (zR (R.getD i []))) (h64 : ∀ r ∈ R, r.length ≤ 64) (hroom : f.2.1 + 200 ≤ BM) (hcb : f.2.2.2 ≤ f.1) (hz : ez E ≤ f.1)
    (h1 : zgt (zT R) = false → ∀ p f', rcT f'.2.2.1 (ez E) f'.1 true (zT R) (fun _ => .ref p) → Gw f f' (4 * n + 5) → Q (.inl (some (.ref p))) s f') (h2 : zgt (zT R) = true → ∀ f', Gw f f' 100 → Q (.inr 9) (cwrong s 2 place) f') : EvC l E w (d + 3) MX6_tableOf [.ref (w.1 6), .int (nI fr), .int (nI n), .int place] s f Q := by
  refine eX6_tableOf hst (pk_le n 20 (fun c => ?_) (fun c => C_wrong hst (Q := Q) (h2 (by rw [zgtT, decide_eq_true (by omega)]; rfl) f ((Gw.rf f).le (by omega))) (fun _ _ _ => rfl)) rfl rfl)
  rw [nI_clamp (by omega)]
  refine ⟨i32_nn n (by omega), by omega, (by show f.2.1 + 1 + n ≤ BM; omega), fun a1 f2 e1 e2 => ?_⟩
  subst e1 e2
  refine dn (P := fun k => ∀ fk, TB E f n (R.take k) (n + 1) fk → ExC l E w (d + 3) MX6_tableOf 25 [some (.ref (w.1 6)), some (.int (nI fr)), some (.int (nI n)), some (.int place), some (.ref f.1), some (.int (nI k))] [] s fk Q) n ?_ (fun k hk ih => ?_) (fnewA f 11 n) (TB.start E f n)
  · intro fk hB
    rw [List.take_of_length_le (by omega)] at hB
    obtain ⟨b1, b2, b3, b4, b5⟩ := hB
    have hbud := b1.2.2.1
    refine vX6_tableOf_25 (pk_le n n (fun _ => ?_) (fun c => by omega) rfl rfl)
    refine C_table hst b3 (b4.trans hn.symm) b2 b5 (by omega) h64 (by omega) (by have := b1.1; rw [b1.2.1]; omega) (fun hz1 f' q1 q2 => ⟨_, rfl, h1 hz1 _ f' q1 ((b1.trans q2).le (by omega))⟩) (fun hz1 f' q2 => h2 hz1 f' ((b1.trans q2).le (by omega)))
  · intro fk hB
    have hl : (R.take k).length = k := by rw [List.length_take]; omega
    refine vX6_tableOf_25 (pk_le n k (fun c => by omega) (fun _ => ?_) rfl rfl)
    rw [nI_add, nI_clamp (by omega), nI_clamp (by omega)]
    obtain ⟨p, q, v1, v2, v3, v4, v5, v6, v7, v8, v9⟩ := rcT.row (hv k hk)
    have hp : p < f.1 := Nat.lt_of_lt_of_le v2 hcb
    have hq : q < f.1 := Nat.lt_of_lt_of_le v5.2 hcb
    have g := hB.1
    refine ⟨inB_n (by omega), _, rfl, by rw [v1]; rfl, p, v1, (g.tgE hp).trans v3.1, g.ocE hp v3, q, by rw [g.vlE hp]; exact v4, hB.2.2.1, (g.tgE hq).trans v6, v5.1, (by rw [hB.2.2.2.1]; exact inB_n hk), (by rw [g.2.1]; exact hcb), fun f11 e => ?_⟩
    have := hB.put (hB.old hcb v9)
    rw [hl, ← take_succ_getD R [] k (by omega)] at this
    rw [e, nI_1]
    exact ih _ this
theorem C_mpack (hst : l.stackTraces = false) {fr n : Nat} {place : Int32} {T : List Th} (hn : T.length = n) (hfr : fr + n ≤ 8400) (hv : ∀ i, i < n → rcV E f (s.2.2.1 24 (fr + i)) (s.2.2.2 25 (fr + i)) (T.getD i (zI 0))) (hZ : ∀ t ∈ T, ZW t) (hroom : f.2.1 + 200 ≤ BM) (hcb : f.2.2.2 ≤ f.1)
    (h1 : zgt (zP T) = false → ∀ p f', rcT f'.2.2.1 (ez E) f'.1 true (zP T) (fun _ => .ref p) → Gw f f' (3 * n + 5) → Q (.inl (some (.ref p))) s f') (h2 : zgt (zP T) = true → ∀ f', Gw f f' 100 → Q (.inr 9) (cwrong s 2 place) f') : EvC l E w (d + 4) MX6_packOf [.ref (w.1 6), .int (nI fr), .int (nI n), .int place] s f Q := by
  refine eX6_packOf hst (pk_le n 20 (fun c => ?_) (fun c => C_wrong hst (Q := Q) (h2 (by rw [zgtP, decide_eq_true (by omega)]; rfl) f ((Gw.rf f).le (by omega))) (fun _ _ _ => rfl)) rfl rfl)
  rw [nI_clamp (by omega)]
  refine ⟨i32_nn n (by omega), by omega, (by show f.2.1 + 1 + n ≤ BM; omega), fun a1 f2 e1 e2 => ?_⟩
  subst e1 e2
  refine dn (P := fun k => ∀ fk, PB E f n (T.take k) (n + 1 + 2 * k) fk → ExC l E w (d + 4) MX6_packOf 25 [some (.ref (w.1 6)), some (.int (nI fr)), some (.int (nI n)), some (.int place), some (.ref f.1), some (.int (nI k))] [] s fk Q) n ?_ (fun k hk ih => ?_) (fnewA f 4 n) (PB.start E f n)
  · intro fk hB
    rw [List.take_of_length_le (by omega)] at hB
    obtain ⟨b1, b2, b3, b4, b5⟩ := hB
    have hbud := b1.2.2.1
    refine vX6_packOf_25 (pk_le n n (fun _ => ?_) (fun c => by omega) rfl rfl)
    refine C_pack hst b3 (b4.trans hn.symm) b2 (fun i hi => (b5 i hi).rep b1 hcb) hZ (by omega) (by omega) (by have := b1.1; rw [b1.2.1]; omega) (fun hz1 f' q1 q2 => ⟨_, rfl, h1 hz1 _ f' q1 ((b1.trans q2).le (by omega))⟩) (fun hz1 f' q2 => h2 hz1 f' ((b1.trans q2).le (by omega)))
  · intro fk hB
    have hl : (T.take k).length = k := by rw [List.length_take]; omega
    have hbud := hB.1.2.2.1
    refine vX6_packOf_25 (pk_le n k (fun c => by omega) (fun _ => ?_) rfl rfl)
    rw [nI_add, nI_clamp (n := k) (by omega)]
    refine C_asThing hst hB.1 hcb (by omega) (hv k hk) (by omega) (fun p f' q1 q2 => ?_)
    have hB2 := hB.grow q2
    obtain ⟨kk, t1, t2⟩ := q1.tag hB2.1 hcb
    refine ⟨p, rfl, kk, hB2.2.2.1, t1, t2, (by rw [hB2.2.2.2.1]; exact inB_n hk), (by rw [hB2.1.2.1]; exact hcb), fun f11 e => ?_⟩
    have := hB2.put q1
    rw [hl, ← take_succ_getD T (zI 0) k (by omega)] at this
    rw [e, nI_1]
    exact ih _ (this.le (by omega))
/-- so many INTS, if that can be -/
theorem C_mints (hst : l.stackTraces = false) {x : Int32} {place : Int32} (hroom : f.2.1 + 230 ≤ BM) (h1 : ¬ x < 0 → x.toNatClampNeg ≤ 64 → Q (.inl (some (.ref f.1))) s (fA f x.toNatClampNeg [])) (h2 : (64 : Int) < x.toInt → Q (.inr 9) (cwrong s 2 place) f) (h3 : x < 0 → Q (.inr 9) (cwrong s 1 place) (fexc f)) : EvC l E w (d + 1) MX6_ints [.ref (w.1 6), .int x, .int place] s f Q := by
  have h64 : x ≤ 64 ↔ x.toInt ≤ 64 := i32_le (n := 64) (by omega)
  refine eX6_ints hst ⟨fun c => ⟨fun c2 => ?_, fun c2 => ⟨?_, fun a4 f3 e => ?_⟩⟩, fun c => C_wrong hst (Q := Q) (h2 (by have := mt h64.mpr c; omega)) (fun _ _ _ => rfl)⟩
  · have hx := i32_nat c2
    have := h64.mp c
    refine ⟨by omega, (by show f.2.1 + 1 + x.toNatClampNeg ≤ BM; omega), fun a1 f2 e1 e2 => ?_⟩
    subst e1 e2
    exact h1 c2 (by omega)
  · show f.2.1 + 3 + 222 ≤ BM
    omega
  · subst e
    exact C_wrong hst (Q := Q) (h3 c2) (fun _ _ _ => rfl)
end CM
