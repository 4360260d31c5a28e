/-! THE COMPONENT: a pack of none but INT 0s; a grid -/
section CT
variable {l : Launch} {E : EN} {w : CO} {d : Nat} {s : CS} {f : RH} {Q : KO → CS → RH → Prop}
/-- a pack whose object is older than its parts may be -/
theorem C_packG (hst : l.stackTraces = false) {p q : Nat} {T : List Th} (hp : oc f p 31) (hb : f.2.2.2 ≤ p) (hlt : p < f.1) (hq : tg f q = some (.inr 4)) (hql : ln f q = T.length) (hqb : q < f.1) (hne : q ≠ p) (hZ : ∀ t ∈ T, ZW t) (hl : T.length ≤ 64) (hI : ∀ f' : RH, (∀ a, a ≠ p → f'.2.2.1 a = f.2.2.1 a) → ∀ i, i < T.length → rcT f'.2.2.1 (ez E) f.1 true (T.getD i (zI 0)) (fun _ => vl f q i)) (hQ : ∀ f', rcT f'.2.2.1 (ez E) f'.1 true (zP T) (fun _ => .ref p) → f'.1 = f.1 → f'.2.1 = f.2.1 → f'.2.2.2 = f.2.2.2 → (∀ a, a ≠ p → f'.2.2.1 a = f.2.2.1 a) → Q (.inl none) s f') : EvC l E w (d + 2) MX34_init [.ref p, .ref q] s f Q := by
  refine eX34_init hst (C_obj hst ⟨rfl, hp, hb, fun f3 e3 => ?_⟩)
  obtain ⟨c1, c2, c3⟩ := fset_tg (j := 206) (v := .ref q) hp.1
  obtain ⟨n1, n2, n3⟩ := fset_ne (f := f) (j := 206) (v := .ref q) hne
  rw [← e3] at c1 c2 c3 n1 n2 n3
  have hI3 : ∀ i, i < T.length → rcT f3.2.2.1 (ez E) f.1 true (T.getD i (zI 0)) (fun _ => vl f3 q i) := fun i hi => by
    rw [n3]
    exact hI f3 (fun a ha => by rw [e3]; exact if_neg ha) i hi
  have hb3 : f3.2.2.2 ≤ p := by rw [e3]; exact hb
  have main : ExC l E w (d + 2) MX34_init 16 [some (.ref p), some (.ref q), some (.int (nI (zd (zsp (T.take 0))))), some (.int (nI (1 + ((T.take 0).map zb).sum))), some (.int (nI 0))] [] s f3 Q := by
    refine dn (P := fun k => ExC l E w (d + 2) MX34_init 16 [some (.ref p), some (.ref q), some (.int (nI (zd (zsp (T.take k))))), some (.int (nI (1 + ((T.take k).map zb).sum))), some (.int (nI k))] [] s f3 Q) T.length ?_ (fun k hk ih => ?_)
    · refine vX34_init_16 ⟨4, n1.trans hq, ?_⟩
      rw [n2, hql]
      refine pk_le T.length T.length (fun _ => ⟨⟨c1, c2.trans hp.2⟩, hb3, fun f5 e5 => ?_⟩) (fun c => by omega) rfl rfl
      obtain ⟨g1, g2, g3⟩ := fset_tg (j := 207) (v := .int (nI (zd (zsp (T.take T.length))) + 1)) c1
      obtain ⟨m1, m2, m3⟩ := fset_ne (f := f3) (j := 207) (v := .int (nI (zd (zsp (T.take T.length))) + 1)) hne
      rw [← e5] at g1 g2 g3 m1 m2 m3
      refine ⟨⟨g1, g2.trans (c2.trans hp.2)⟩, (by rw [e5]; exact hb3), fun f6 e6 => ?_⟩
      obtain ⟨i1, i2, i3⟩ := fset_tg (j := 208) (v := .int (nI (1 + ((T.take T.length).map zb).sum))) g1
      obtain ⟨j1, j2, j3⟩ := fset_ne (f := f5) (j := 208) (v := .int (nI (1 + ((T.take T.length).map zb).sum))) hne
      rw [← e6] at i1 i2 i3 j1 j2 j3
      have ef : f6.1 = f.1 ∧ f6.2.1 = f.2.1 ∧ f6.2.2.2 = f.2.2.2 := by rw [e6, e5, e3]; exact ⟨rfl, rfl, rfl⟩
      have ec : ∀ a, a ≠ p → f6.2.2.1 a = f.2.2.1 a := fun a ha => by
        rw [e6, e5, e3]
        exact (if_neg ha).trans ((if_neg ha).trans (if_neg ha))
      refine hQ f6 ?_ ef.1 ef.2.1 ef.2.2 ec
      refine rcT_pack.mpr ⟨p, vl f6 p, q, vl f6 q, rfl, by rw [ef.1]; exact hlt, ?_, ?_, by rw [ef.1]; exact hqb, ?_, ?_, ?_, fun i hi => ?_⟩
      · rw [cellv' i1, i2, g2, c2, hp.2]
      · rw [i3, if_neg (by decide), g3, if_neg (by decide), c3, if_pos rfl]
      · rw [cellv' (j1.trans (m1.trans (n1.trans hq))), j2, m2, n2, hql]
      · rw [i3, if_neg (by decide), g3, if_pos rfl, List.take_length, nI_1, zd_zP]
      · rw [i3, if_pos rfl, List.take_length, zb_zP, Nat.add_comm]
      · have e : vl f6 q i = vl f q i := by rw [j3, m3, n3]
        rw [e]
        rw [ef.1]
        exact hI f6 ec i hi
    · have hm : T.getD k (zI 0) ∈ T := getD_mem _ hk
      have hk3 := hI3 k hk
      obtain ⟨a8, ea, eb, eo⟩ := hk3.ocl
      have bz := zbsum_le T hZ
      have hz1 := zw_bd (hZ _ hm)
      have t1 := take_succ_getD T (zI 0) k hk
      have hzd := zdsp_le (T.take k) fun x hx => hZ x (List.mem_of_mem_take hx)
      refine vX34_init_16 ⟨4, n1.trans hq, ?_⟩
      rw [n2, hql, nI_clamp (by omega)]
      refine pk_le T.length k (fun c => by omega) (fun _ => ⟨4, by decide, n1.trans hq, inB_n hk, a8, ea, fun o s1 f2 => o = .inl (some (.int (nI (zd (T.getD k (zI 0)))))) ∧ s1 = s ∧ f2 = f3, ?_, C_depth hst (hZ _ hm) (by rw [ea] at hk3; exact hk3) ⟨rfl, rfl, rfl⟩⟩) rfl rfl
      rintro o s1 f2 ⟨rfl, rfl, rfl⟩
      refine ⟨_, rfl, fun y12 ey => ⟨4, by decide, n1.trans hq, by rw [n2, hql]; exact inB_n hk, a8, ea, fun o s2 f4 => o = .inl (some (.int (nI (zb (T.getD k (zI 0)))))) ∧ s2 = s1 ∧ f4 = f2, ?_, C_bulk hst (hZ _ hm) (by rw [ea] at hk3; exact hk3) ⟨rfl, rfl, rfl⟩⟩⟩
      rintro o s2 f4 ⟨rfl, rfl, rfl⟩
      refine ⟨_, rfl, fun y18 ez' => ?_⟩
      have e12 : y12 = nI (zd (zsp (T.take (k + 1)))) := by
        rw [ey, t1, zd_snoc]
        by_cases c : zd (zsp (T.take k)) < zd (T.getD k (zI 0))
        · rw [if_pos ((nI_ltI (by omega) (by omega)).mpr c), Nat.max_eq_right (by omega)]
        · rw [if_neg (fun z => c ((nI_ltI (by omega) (by omega)).mp z)), Nat.max_eq_left (by omega)]
      have e18 : y18 = nI (1 + ((T.take (k + 1)).map zb).sum) := by
        rw [ez', nI_add, t1, sum_snoc, Nat.add_assoc]
      rw [e12, e18, nI_1]
      exact ih
  exact main
theorem PE.off {f0 f f' : RH} {c p : Nat} {v : Value} {t : Th} (h : PE E f0 f v t) (hg : Gw f0 f c) (h0 : f0.2.2.2 ≤ p) (hp : p < f0.1) (hf : ∀ a, a ≠ p → f'.2.2.1 a = f.2.2.1 a) : rcT f'.2.2.1 (ez E) f.1 true t (fun _ => v) := by
  have hl := hg.1
  rcases h with h | ⟨p', x, rfl, rfl, h1, h2, h3, h4⟩
  · exact rcT_mono (by omega) (fun a ha => (hf a (by omega)).trans (hg.2.2.2 a (by omega))) _ true _ h
  · exact ⟨p', vl f p', rfl, h2, by rw [hf p' (by omega), cellv' h3.1, h3.2], h4⟩
theorem C_things (hst : l.stackTraces = false) {x place : Int32} (hcb : f.2.2.2 ≤ f.1) (hroom : f.2.1 + 300 ≤ BM)
    (h1 : ¬ x < 0 → x.toNatClampNeg ≤ 20 → ∀ f', PB E f x.toNatClampNeg (List.replicate x.toNatClampNeg (zI 0)) (x.toNatClampNeg + 1 + 2 * x.toNatClampNeg) f' → Q (.inl (some (.ref f.1))) s f') (h2 : (20 : Int) < x.toInt → Q (.inr 9) (cwrong s 2 place) f) (h3 : x < 0 → Q (.inr 9) (cwrong s 1 place) (fexc f)) : EvC l E w (d + 2) MX6_things [.ref (w.1 6), .int x, .int place] s f Q := by
  have h20 : x ≤ 20 ↔ x.toInt ≤ 20 := i32_le (n := 20) (by omega)
  refine eNX6_things hst ⟨fun c => ⟨fun c2 => ?_, fun c2 => ⟨?_, fun a4 f3 e => ?_⟩⟩, fun c => C_wrong hst (Q := Q) (h2 (by have := mt h20.mpr c; omega)) (fun _ _ _ => rfl)⟩
  · have hx := i32_nat c2
    have := h20.mp c
    have hN : x.toNatClampNeg ≤ 20 := by omega
    have hxe := hx.2
    have h1' := h1 c2 hN
    generalize x.toNatClampNeg = N at *
    refine ⟨by omega, (by show f.2.1 + 1 + N ≤ BM; omega), fun a1 f2 e1 e2 => ?_⟩
    subst e1 e2
    rw [hxe]
    refine dn (P := fun k => ∀ fk, PB E f N (List.replicate k (zI 0)) (N + 1 + 2 * k) fk → ExC l E w (d + 2) MX6_things 39 [none, some (.int (nI N)), none, some (.ref f.1), some (.int (nI k))] [] s fk Q) N ?_ (fun k hk ih => ?_) (fnewA f 4 N) ((PB.start E f N))
    · intro fk hB
      exact vNX6_things_39 (pk_le N N (fun _ => h1' fk hB) (fun c => by omega) rfl rfl)
    · intro fk hB
      have g := hB.1
      have hbud := g.2.2.1
      refine vNX6_things_39 (pk_le N k (fun c => by omega) (fun _ => ⟨(by show fk.2.1 + 1 + 1 ≤ BM; omega), fun a9 f10 e1 e2 => ?_⟩) rfl rfl)
      subst e1 e2
      obtain ⟨w1, w2⟩ := newW (E := E) (f0 := f) (c := N + 1 + 2 * k) 0 g
      refine C_whole hst (fnew_new fk 32) (by show fk.2.2.2 ≤ fk.1; rw [g.2.1]; exact Nat.le_trans hcb g.1) ⟨rfl, 32, ?_⟩
      have hB2 := hB.grow w2
      have hlr : (List.replicate k (zI 0)).length = k := List.length_replicate
      refine ⟨hB2.2.2.1, ?_, by decide, by rw [hB2.2.2.2.1]; exact inB_n hk, by rw [hB2.1.2.1]; exact hcb, fun f13 e => ?_⟩
      · rw [(fset_tg (fnew_new fk 32).1).1]
      · have hp := hB2.put w1
        rw [hlr, ← List.replicate_succ'] at hp
        rw [e, nI_1, nI_clamp (n := k) (by omega)]
        exact ih _ (by have e9 : N + 1 + 2 * (k + 1) = N + 1 + 2 * k + 2 := by omega
                       rw [e9]; exact hp)
  · show f.2.1 + 3 + 222 ≤ BM
    omega
  · subst e
    exact C_wrong hst (Q := Q) (h3 c2) (fun _ _ _ => rfl)
theorem C_b2 (hst : l.stackTraces = false) {n md : Nat} {x : Th} {place many : Int32} (h : COk E n md [x] s f) (hQ : ∀ o s' f', cop E n md (zbi1 2 x) place s f o s' f' → Q o s' f') : EvC l E w (d + 3) MX6_work [.ref (w.1 6), .int 2, .int many, .int place] s f Q := by
  obtain ⟨hx, wx, h26, h83⟩ := h.v1
  obtain ⟨⟨-, -, h40, hmd⟩, ⟨hr, hz, hcb⟩, -, -⟩ := h
  have g := fnew_gw f 31
  have hbud := g.2.2.1
  have cz : CZ 31 = 3 := rfl
  rw [cz] at hbud
  refine EvC.pfrz (eX6_work hst (br_f (by decide) (br_f (by decide) (br_t rfl ⟨(by show f.2.1 + 1 + 3 ≤ BM; omega), fun a1 f2 e1 e2 => ?_⟩))))
  subst e1 e2
  rw [h26, nI_pred]
  have hb := zbi1_2 x
  refine C_asInt hst (by omega) hx (fun c => ⟨_, rfl, ?_⟩) (fun c => hQ _ _ _ (cop.tr (k := 3) (hb.trans (if_pos c)) rfl h40 (by omega)))
  rw [if_neg (fun z => z c)] at hb
  refine C_things hst (by show f.2.2.2 ≤ f.1 + 1; omega) (by omega) (fun c1 c2 f' hB => ⟨_, rfl, ?_⟩) (fun c1 => hQ _ _ _ (cop.tr (k := 2) (hb.trans (if_pos c1)) rfl h40 (by omega))) (fun c1 => hQ _ _ _ (cop.tr (k := 1) (hb.trans (by rw [if_neg (by have := i32_neg.mp c1; omega), if_pos c1])) rfl h40 (by show (fnew f 31).2.1 + 225 ≤ _; omega)))
  have hN := (i32_nat c1).1
  rw [if_neg (by omega), if_neg c1] at hb
  generalize (zv x).toNatClampNeg = N at *
  have hlr : (List.replicate N (zI 0)).length = N := List.length_replicate
  have hZ : ∀ t ∈ List.replicate N (zI 0), ZW t := fun t ht => by rw [(List.mem_replicate.mp ht).2]; exact trivial
  have gB := hB.1
  have hlt : f.1 < (fnew f 31).1 := Nat.lt_succ_self _
  have hocp := gB.ocE hlt (fnew_new f 31)
  refine C_packG hst (T := List.replicate N (zI 0)) hocp (by rw [gB.2.1]; exact hcb) (Nat.lt_of_lt_of_le hlt gB.1) hB.2.2.1 (by rw [hB.2.2.2.1, hlr]) hB.2.1 (by show f.1 + 1 ≠ f.1; omega) hZ (by omega) (fun fo ho i hi => (hB.2.2.2.2 i hi).off gB hcb hlt ho) (fun f6 q1 e1 e2 e3 ec => ⟨rfl, ?_⟩)
  have hZP : ZW (zP (List.replicate N (zI 0))) := by
    refine zw_pack.mpr ⟨by rw [hlr]; exact c2, ?_, ?_, hZ⟩
    · rw [List.map_replicate, List.sum_replicate_nat]
      show N * 1 + 1 ≤ 600; omega
    · have : ∀ z : Nat, zd (zsp (List.replicate z (zI 0))) = 0 := by
        intro z
        induction z with
        | zero => rfl
        | succ z ih => rw [List.replicate_succ, zd_cons, ih]; rfl
      rw [this]; decide
  exact C_fin hst (parts := 1) (f0 := f) (c := 3 + 1 + (N + 1 + 2 * N)) hb (cfr.rf JC n s) (by rw [e2]; have := gB.2.2.1; omega) q1 (by show ¬ 3 = 0; decide) hZP h26 (by omega) h40 hmd (by show _ ≤ 2 * (4 + 2 * (zl (zsp (List.replicate N (zI 0)))).length); rw [zl_zsp, hlr]; omega) hQ
end CT
