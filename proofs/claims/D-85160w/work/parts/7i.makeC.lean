/-! THE COMPONENT: row, iota, rows, box -/
section CMk
variable {l : Launch} {E : EN} {w : CO} {d : Nat} {s : CS} {f : RH} {Q : KO → CS → RH → Prop}
theorem zbi1_01 {b : Nat} (hb : b = 0 ∨ b = 1) (x : Th) : zbi1 b x = if zk x ≠ 0 then .inl 3 else if (64 : Int) < (zv x).toInt then .inl 2 else if zv x < 0 then .inl 1 else if b = 0 then .inr (zR (List.replicate (zv x).toNatClampNeg 0)) else .inr (zR ((List.range (zv x).toNatClampNeg).map nI)) := by
  rcases hb with rfl | rfl <;> rfl
theorem C_b0 (hst : l.stackTraces = false) {n md : Nat} {x : Th} {place many : Int32} (h : COk E n md [x] s f) (hQ : ∀ o s' f', cop E n md (zbi1 0 x) place s f o s' f' → Q o s' f') : EvC l E w (d + 3) MX6_work [.ref (w.1 6), .int 0, .int many, .int place] s f Q := by
  obtain ⟨hx, wx, h26, h83⟩ := h.v1
  obtain ⟨⟨-, -, h40, hmd⟩, ⟨hr, hz, hcb⟩, -, -⟩ := h
  have hz1 : ez E ≤ f.1 := Nat.le_trans hz hcb
  have g := fnew_gw f 29
  have hbud := g.2.2.1
  rw [CZ29] at hbud
  refine EvC.pfrz (eX6_work hst (br_t rfl ⟨(by show f.2.1 + 1 + 1 ≤ BM; omega), fun a1 f2 e1 e2 => ?_⟩))
  subst e1 e2
  rw [h26, nI_pred]
  have hb := zbi1_01 (Or.inl rfl) x
  refine C_asInt hst (by omega) hx (fun c => ⟨_, rfl, ?_⟩) (fun c => hQ _ _ _ (cop.tr (k := 3) (hb.trans (if_pos c)) rfl h40 (by omega)))
  rw [if_neg (fun z => z c)] at hb
  refine C_mints hst (by omega) (fun c1 c2 => ⟨_, rfl, ?_⟩) (fun c1 => hQ _ _ _ (cop.tr (k := 2) (hb.trans (if_pos c1)) rfl h40 (by omega))) (fun c1 => hQ _ _ _ (cop.tr (k := 1) (hb.trans (by rw [if_neg (by have := i32_neg.mp c1; omega), if_pos c1])) rfl h40 (by show (fnew f 29).2.1 + 225 ≤ _; omega)))
  have hN := (i32_nat c1).1
  rw [if_neg (by omega), if_neg c1, if_pos rfl] at hb
  generalize (zv x).toNatClampNeg = N at *
  have hI := IA.zero (fnew f 29) N
  refine C_rowLate hst hI.gw hcb (hI.rI (Nat.le_succ_of_le hz1) List.length_replicate) (fun f' q1 q2 => ⟨rfl, ?_⟩)
  exact C_fin hst (parts := 1) (f0 := f) hb (cfr.rf JC n s) q2.2.2.1 q1 (by show ¬ 1 = 0; decide) (by show (List.replicate N 0).length ≤ 64; rw [List.length_replicate]; omega) h26 (by omega) h40 hmd (by show _ ≤ 2 * (4 + (List.replicate N 0).length); rw [List.length_replicate]; omega) hQ
theorem C_b1 (hst : l.stackTraces = false) {n md : Nat} {x : Th} {place many : Int32} (h : COk E n md [x] s f) (hQ : ∀ o s' f', cop E n md (zbi1 1 x) place s f o s' f' → Q o s' f') : EvC l E w (d + 3) MX6_work [.ref (w.1 6), .int 1, .int many, .int place] s f Q := by
  obtain ⟨hx, wx, h26, h83⟩ := h.v1
  obtain ⟨⟨-, -, h40, hmd⟩, ⟨hr, hz, hcb⟩, -, -⟩ := h
  have hz1 : ez E ≤ f.1 := Nat.le_trans hz hcb
  refine EvC.pfrz (eX6_work hst (br_f (by decide) (br_t rfl ?_)))
  rw [h26, nI_pred]
  have hb := zbi1_01 (Or.inr rfl) x
  refine C_asInt hst (by omega) hx (fun c => ⟨_, rfl, ?_⟩) (fun c => hQ _ _ _ (cop.tr (k := 3) (hb.trans (if_pos c)) rfl h40 (by omega)))
  rw [if_neg (fun z => z c)] at hb
  refine C_mints hst (by omega) (fun c1 c2 => ⟨_, rfl, ?_⟩) (fun c1 => hQ _ _ _ (cop.tr (k := 2) (hb.trans (if_pos c1)) rfl h40 (by omega))) (fun c1 => hQ _ _ _ (cop.tr (k := 1) (hb.trans (by rw [if_neg (by have := i32_neg.mp c1; omega), if_pos c1])) rfl h40 (by show f.2.1 + 225 ≤ _; omega)))
  have hN := (i32_nat c1).1
  rw [if_neg (by omega), if_neg c1, if_neg (by decide)] at hb
  generalize (zv x).toNatClampNeg = N at *
  have hml : ((List.range N).map nI).length = N := by rw [List.length_map, List.length_range]
  refine dn (P := fun k => ExC l E w (d + 3) MX6_work 104 [some (.ref (w.1 6)), none, none, some (.int place), some (.ref f.1), some (.int (nI k))] [] s (fA f N (((List.range N).map nI).take k)) _) N ?_ (fun k hk ih => ?_)
  · rw [List.take_of_length_le (by omega)]
    refine vX6_work_104 ⟨0, (fA_tg f _ _).1, ?_⟩
    rw [(fA_tg f _ _).2.1]
    refine pk_le N N (fun _ => ?_) (fun c => by omega) rfl rfl
    have g := fA_gw f N ((List.range N).map nI)
    refine C_newRow hst (fA_rI f N _ hz1 hml) (by have := g.2.2.1; omega) (Nat.le_succ_of_le hcb) (fun f' q1 q2 => ?_)
    exact C_fin hst (parts := 1) (f0 := f) hb (cfr.rf JC n s) (g.trans q2).2.2.1 q1 (by show ¬ 1 = 0; decide) (by show ((List.range N).map nI).length ≤ 64; omega) h26 (by omega) h40 hmd (by show _ ≤ 2 * (4 + ((List.range N).map nI).length); omega) hQ
  · have hll : (((List.range N).map nI).take k).length = k := by rw [List.length_take]; omega
    have e2 := take_succ_getD ((List.range N).map nI) 0 k (by omega)
    rw [getD_map nI (List.range N) 0 0 (by rw [List.length_range]; exact hk), getD_lt 0 (by rw [List.length_range]; exact hk), List.getElem_range] at e2
    refine vX6_work_104 ⟨0, (fA_tg f _ _).1, ?_⟩
    rw [(fA_tg f _ _).2.1, nI_clamp (n := k) (by omega)]
    refine pk_le N k (fun c => by omega) (fun _ => ⟨(fA_tg f _ _).1, inB_n hk, hcb, fun f71 e => ?_⟩) rfl rfl
    have := fA_snoc f N (((List.range N).map nI).take k) (nI k)
    rw [hll, ← e2] at this
    rw [e, this, nI_1]
    exact ih
theorem C_b5 (hst : l.stackTraces = false) {n md : Nat} {A : List Th} {place : Int32} (h : COk E n md A s f) (hQ : ∀ o s' f', cop E n md (zmk (zP A)) place s f o s' f' → Q o s' f') : EvC l E w (d + 5) MX6_work [.ref (w.1 6), .int 5, .int (nI A.length), .int place] s f Q := by
  obtain ⟨⟨h26, h83, h40, hmd⟩, ⟨hr, hz, hcb⟩, hZ, hV⟩ := h
  refine EvC.pfrz (eX6_work hst (br_f (by decide) (br_f (by decide) (br_f (by decide) (br_f (by decide) (br_f (by decide) ?_))))))
  have hsub : nI (n + A.length) - nI A.length = nI n := by rw [pk_sub (by omega), Nat.add_sub_cancel]
  rw [h26, hsub]
  refine C_mpack hst (T := A) rfl (by omega) hV hZ (by omega) hcb (fun c p f' q1 q2 => ⟨p, rfl, ?_⟩) (fun c f' q2 => hQ _ _ _ (cop.tr (k := 2) (by unfold zmk; rw [if_pos c]) rfl h40 (by have := q2.2.2.1; omega)))
  have hmk : zmk (zP A) = .inr (zP A) := by unfold zmk; rw [c]; rfl
  exact C_fin hst (f0 := f) hmk (cfr.rf JC n s) q2.2.2.1 q1 (by show ¬ 3 = 0; decide) (zmk_pack hZ hmk).2 h26 h83 h40 hmd (by show _ ≤ 2 * (4 + 2 * (zl (zsp A)).length); rw [zl_zsp]; omega) hQ
theorem C_rows4 (hst : l.stackTraces = false) {b q : Nat} {r : List Int32} {place : Int32} (hr : rcI f.2.2.1 (ez E) b (.ref q) r) (hb : b ≤ f.1) (hrl : r.length ≤ 64) (hz : ez E ≤ f.1) (hcb : f.2.2.2 ≤ f.1) (hroom : f.2.1 + 600 ≤ BM)
    (h2 : (20 < r.length ∨ (∃ v ∈ r, 64 < v.toInt) ∨ 200 < (r.map Int32.toNatClampNeg).sum) → Q (.inr 9) (cwrong s 2 place) f) (h3 : ¬ (20 < r.length ∨ (∃ v ∈ r, 64 < v.toInt) ∨ 200 < (r.map Int32.toNatClampNeg).sum) → (∃ v ∈ r, v < 0) → ∀ f', Gw f f' 500 → Q (.inr 9) (cwrong s 1 place) f')
    (h1 : ¬ (20 < r.length ∨ (∃ v ∈ r, 64 < v.toInt) ∨ 200 < (r.map Int32.toNatClampNeg).sum) → ¬ (∃ v ∈ r, v < 0) → ∀ f', TB E f r.length (r.map (fun v => List.replicate v.toNatClampNeg 0)) (r.length + 1 + (r.length + (r.map Int32.toNatClampNeg).sum)) f' → Q (.inl (some (.ref f.1))) s f') : EvC l E w (d + 2) MX6_rows [.ref (w.1 6), .ref q, .int place] s f Q := by
  obtain ⟨q', r1, r2, r3, r4, r5⟩ := hr.vw
  cases r1
  have hq1 : q < f.1 := Nat.lt_of_lt_of_le r2.2 hb
  have main : ∀ k, k ≤ r.length → ∀ (b3 : Int64) (b5 : Bool), b3.toInt = (((r.take k).map Int32.toNatClampNeg).sum : Int) → (b5 = true ↔ (20 < r.length ∨ ∃ v ∈ r.take k, 64 < v.toInt)) → ExC l E w (d + 2) MX6_rows 19 [some (.ref (w.1 6)), some (.ref q), some (.int place), some (.long b3), none, some (.int (bI b5)), some (.int (nI k)), none] [] s f Q := by
    intro k hk b3 b5 e3 e5
    have mm : ∀ m k, k + m = r.length → ∀ (b3 : Int64) (b5 : Bool), b3.toInt = (((r.take k).map Int32.toNatClampNeg).sum : Int) → (b5 = true ↔ (20 < r.length ∨ ∃ v ∈ r.take k, 64 < v.toInt)) → ExC l E w (d + 2) MX6_rows 19 [some (.ref (w.1 6)), some (.ref q), some (.int place), some (.long b3), none, some (.int (bI b5)), some (.int (nI k)), none] [] s f Q := by
      intro m
      induction m with
      | zero =>
        intro k hk b3 b5 e3 e5
        have hk : k = r.length := hk
        subst hk
        rw [List.take_length] at e3 e5
        refine vX6_rows_19 ⟨0, r3, ?_⟩
        rw [r4]
        refine pk_le r.length r.length (fun _ => ?_) (fun c => by omega) rfl rfl
        cases b5 with
        | true =>
          refine ⟨fun _ => C_wrong hst (Q := Q) (h2 ?_) (fun _ _ _ => rfl), fun z => absurd z (by decide)⟩
          rcases e5.mp rfl with z | z
          · exact Or.inl z
          · exact Or.inr (Or.inl z)
        | false =>
          have hno5 : ¬ (20 < r.length ∨ ∃ v ∈ r, 64 < v.toInt) := fun z => by have := e5.mpr z; cases this
          have hlg : lg_cmp b3 200 ≤ 0 ↔ (r.map Int32.toNatClampNeg).sum ≤ 200 := by
            rw [lg_cmp_le, Int64.le_iff_toInt_le, e3]
            show (_ : Int) ≤ 200 ↔ _
            omega
          refine ⟨fun z => absurd rfl z, fun _ => ⟨fun c => ?_, fun c => C_wrong hst (Q := Q) (h2 (Or.inr (Or.inr (by have := mt hlg.mpr c; omega)))) (fun _ _ _ => rfl)⟩⟩
          have hs := hlg.mp c
          have hno : ¬ (20 < r.length ∨ (∃ v ∈ r, 64 < v.toInt) ∨ 200 < (r.map Int32.toNatClampNeg).sum) := by
            rintro (z | z | z)
            · exact hno5 (Or.inl z)
            · exact hno5 (Or.inr z)
            · omega
          have h20 : r.length ≤ 20 := by
            have := mt (Or.inl (b := ∃ v ∈ r, 64 < v.toInt)) hno5
            omega
          have hsle : ∀ i, ((r.take i).map Int32.toNatClampNeg).sum ≤ (r.map Int32.toNatClampNeg).sum := by
            intro i
            have e : (r.map Int32.toNatClampNeg).sum = ((r.take i).map Int32.toNatClampNeg).sum + ((r.drop i).map Int32.toNatClampNeg).sum := by
              rw [← List.sum_append, ← List.map_append, List.take_append_drop]
            omega
          refine ⟨0, r3, ?_⟩
          rw [nI_clamp (by omega)]
          refine ⟨i32_nn _ (by omega), by omega, (by show f.2.1 + 1 + r.length ≤ BM; omega), fun a6 f7 e1 e2 => ?_⟩
          subst e1 e2
          refine dn (P := fun k => ∀ fk, (∀ v ∈ r.take k, ¬ v < 0) → TB E f r.length ((r.take k).map (fun v => List.replicate v.toNatClampNeg 0)) (r.length + 1 + (k + ((r.take k).map Int32.toNatClampNeg).sum)) fk → ExC l E w (d + 2) MX6_rows 98 [some (.ref (w.1 6)), some (.ref q), some (.int place), none, none, none, some (.ref f.1), some (.int (nI k))] [] s fk Q) r.length ?_ (fun k hk ih => ?_) (fnewA f 11 r.length) (fun v hv => by rw [List.take_zero] at hv; cases hv) ((TB.start E f r.length).le (by show _ ≤ r.length + 1 + (0 + 0); omega))
          · intro fk hpos hB
            rw [List.take_length] at hpos hB
            have g := hB.1
            refine vX6_rows_98 ⟨0, (g.tgE hq1).trans r3, ?_⟩
            rw [g.lnE hq1, r4]
            exact pk_le r.length r.length (fun _ => h1 hno (fun ⟨v, hv, z⟩ => hpos v hv z) fk hB) (fun c => by omega) rfl rfl
          · intro fk hpos hB
            have g := hB.1
            have hbud := g.2.2.1
            have hs0 := hsle k
            have hs1 := hsle (k + 1)
            have hm := getD_mem (0 : Int32) hk
            have hP1 : ((r.take (k + 1)).map Int32.toNatClampNeg).sum = ((r.take k).map Int32.toNatClampNeg).sum + (r.getD k 0).toNatClampNeg := by
              rw [take_succ_getD r 0 k hk, List.map_append, List.sum_append]; simp
            have hll : ((r.take k).map (fun v : Int32 => List.replicate v.toNatClampNeg (0 : Int32))).length = k := by rw [List.length_map, List.length_take]; omega
            have hmm := take_map_succ (fun v : Int32 => List.replicate v.toNatClampNeg (0 : Int32)) r 0 k hk
            refine vX6_rows_98 ⟨0, (g.tgE hq1).trans r3, ?_⟩
            rw [g.lnE hq1, r4, nI_clamp (by omega)]
            refine pk_le r.length k (fun c => by omega) (fun _ => ⟨(g.tgE hq1).trans r3, inB_n hk, r.getD k 0, by rw [g.vlE hq1]; exact r5 k hk, fun cn => ⟨by omega, (by show fk.2.1 + 1 + _ ≤ BM; omega), fun a19 f20 e1 e2 => ?_⟩, fun cn => ⟨(by show fk.2.1 + 3 + 222 ≤ BM; omega), fun a23 f22 e => ?_⟩⟩) rfl rfl
            · subst e1 e2
              have hI := IA.zero fk (r.getD k 0).toNatClampNeg
              have hB2 := hB.grow hI.gw
              refine ⟨hB2.2.2.1, hI.at.1, Nat.le_trans hz g.1, by rw [hB2.2.2.2.1]; exact inB_n hk, by rw [hB2.1.2.1]; exact hcb, fun f21 e => ?_⟩
              have hp := hB2.put (hI.rI (Nat.le_trans hz g.1) List.length_replicate)
              rw [hll, ← hmm] at hp
              rw [e, nI_1]
              exact ih _ (mem_take_succ (x := 0) hk hpos cn) (hp.le (by omega))
            · rw [e]
              exact C_wrong hst (Q := Q) (h3 hno ⟨_, hm, cn⟩ _ ((g.trans (Gw.exc _)).le (by omega))) (fun _ _ _ => rfl)
      | succ m ih =>
        intro k hk b3 b5 e3 e5
        have hkl : k < r.length := by omega
        have hts := take_succ_getD r 0 k hkl
        have hcl : ∀ v : Int32, (v.toNatClampNeg : Int) ≤ 2 ^ 31 := fun v => by
          by_cases c : v < 0
          · have : v.toNatClampNeg = 0 := by
              have := i32_neg.mp c
              show v.toInt.toNat = 0
              omega
            omega
          · have := (i32_nat c).1
            have := i32_rng v
            omega
        have hsb : ∀ L : List Int32, ((L.map Int32.toNatClampNeg).sum : Int) ≤ 2 ^ 31 * (L.length : Int) := fun L => by
          induction L with
          | nil => exact Int.le_refl 0
          | cons v q ihq =>
            rw [List.map_cons, List.sum_cons, List.length_cons]
            have := hcl v
            omega
        have hb0 := hsb (r.take k)
        rw [List.length_take] at hb0
        generalize hv : r.getD k 0 = v at *
        have hadd : (b3 + (if 0 < v then v else 0).toInt64).toInt = (((r.take (k + 1)).map Int32.toNatClampNeg).sum : Int) := by
          have hif : (if 0 < v then v else 0).toInt64.toInt = (v.toNatClampNeg : Int) := by
            rw [i64_toInt]
            by_cases c : 0 < v
            · rw [if_pos c]
              have := Int32.lt_iff_toInt_lt.mp c
              have h0 : (0 : Int32).toInt = 0 := rfl
              exact (i32_nat (fun z => by have := i32_neg.mp z; omega)).1.symm
            · rw [if_neg c]
              have := mt Int32.lt_iff_toInt_lt.mpr c
              have h0 : (0 : Int32).toInt = 0 := rfl
              show (0 : Int) = ((v.toInt.toNat : Nat) : Int)
              omega
          have h3' := hcl v
          refine i64_add (p := (((r.take (k + 1)).map Int32.toNatClampNeg).sum : Int)) ?_ ?_ ?_
          · rw [e3, hif, hts, List.map_append, List.sum_append]
            simp
          · rw [hts, List.map_append, List.sum_append]
            simp only [List.map_cons, List.map_nil, List.sum_cons, List.sum_nil]
            omega
          · rw [hts, List.map_append, List.sum_append]
            simp only [List.map_cons, List.map_nil, List.sum_cons, List.sum_nil]
            omega
        have hex : (20 < r.length ∨ ∃ u ∈ r.take (k + 1), 64 < u.toInt) ↔ (b5 = true ∨ 64 < v.toInt) := by
          rw [e5, hts]
          constructor
          · rintro (z | ⟨u, hu, z⟩)
            · exact Or.inl (Or.inl z)
            · rcases List.mem_append.mp hu with hu | hu
              · exact Or.inl (Or.inr ⟨u, hu, z⟩)
              · rw [List.mem_singleton.mp hu] at z; exact Or.inr z
          · rintro ((z | ⟨u, hu, z⟩) | z)
            · exact Or.inl z
            · exact Or.inr ⟨u, List.mem_append_left _ hu, z⟩
            · exact Or.inr ⟨v, List.mem_append_right _ (List.mem_singleton.mpr rfl), z⟩
        have h64 : v ≤ 64 ↔ v.toInt ≤ 64 := i32_le (n := 64) (by omega)
        have hvl : vl f q k = .int v := by rw [r5 k hkl, hv]
        refine vX6_rows_19 ⟨0, r3, ?_⟩
        rw [r4, nI_clamp (n := k) (by omega), nI_1]
        refine pk_le r.length k (fun c => by omega) (fun _ => ?_) rfl rfl
        cases b5 with
        | true =>
          refine ⟨fun _ => ⟨r3, inB_n hkl, v, hvl, fun y ey => ?_⟩, fun z => absurd z (by decide)⟩
          rw [← ey] at hadd
          exact ih (k + 1) (by omega) y true hadd ⟨fun _ => hex.mpr (Or.inl rfl), fun _ => rfl⟩
        | false =>
          refine ⟨fun z => absurd rfl z, fun _ => ⟨r3, inB_n hkl, v, hvl, fun c => ⟨r3, inB_n hkl, v, hvl, fun y ey => ?_⟩, fun c => ⟨r3, inB_n hkl, v, hvl, fun y ey => ?_⟩⟩⟩
          · rw [← ey] at hadd
            refine ih (k + 1) (by omega) y false hadd ⟨fun z => (by cases z), fun z => ?_⟩
            rcases hex.mp z with z | z
            · cases z
            · have := h64.mp c
              omega
          · rw [← ey] at hadd
            refine ih (k + 1) (by omega) y true hadd ⟨fun _ => hex.mpr (Or.inr ?_), fun _ => rfl⟩
            have := mt h64.mpr c
            omega
    exact mm (r.length - k) k (by omega) b3 b5 e3 e5
  refine eX6_rows hst ⟨0, r3, ?_⟩
  rw [r4]
  refine pk_le r.length 20 (fun c => ?_) (fun c => ?_) rfl rfl
  · exact main 0 (Nat.zero_le _) 0 false rfl ⟨fun z => (by cases z), fun z => by
      rcases z with z | ⟨v, hv, _⟩
      · omega
      · rw [List.take_zero] at hv; cases hv⟩
  · exact main 0 (Nat.zero_le _) 0 true rfl ⟨fun _ => Or.inl c, fun _ => rfl⟩
theorem zis_rep : ∀ r : List Int32, zis (r.map (fun v => List.replicate v.toNatClampNeg (0 : Int32))) = (r.map Int32.toNatClampNeg).sum
  | [] => rfl
  | v :: q => by rw [List.map_cons, zis_cons, List.length_replicate, zis_rep q, List.map_cons, List.sum_cons]
theorem C_b4 (hst : l.stackTraces = false) {n md : Nat} {x : Th} {place many : Int32} (h : COk E n md [x] s f) (hQ : ∀ o s' f', cop E n md (zbi1 4 x) place s f o s' f' → Q o s' f') : EvC l E w (d + 3) MX6_work [.ref (w.1 6), .int 4, .int many, .int place] s f Q := by
  obtain ⟨hx, wx, h26, h83⟩ := h.v1
  obtain ⟨⟨-, -, h40, hmd⟩, ⟨hr, hz, hcb⟩, -, -⟩ := h
  have hz1 : ez E ≤ f.1 := Nat.le_trans hz hcb
  have g := fnew_gw f 30
  have hbud := g.2.2.1
  rw [CZ30] at hbud
  refine EvC.pfrz (eX6_work hst (br_f (by decide) (br_f (by decide) (br_f (by decide) (br_f (by decide) (br_t rfl ⟨(by show f.2.1 + 1 + 2 ≤ BM; omega), fun a1 f2 e1 e2 => ?_⟩))))))
  subst e1 e2
  rw [h26, nI_pred]
  have hb := zbi1_4 x
  refine C_asRow hst g hcb (by omega) hx (fun c p hp => ⟨p, rfl, ?_⟩) (fun c => hQ _ _ _ (cop.tr (k := 3) (hb.trans (if_pos c)) rfl h40 (by omega)))
  rw [if_neg (fun z => z c)] at hb
  have wx' := wx
  rw [zk1 c] at wx'
  have wl : (zr x).length ≤ 64 := wx'
  obtain ⟨p', q, v1, v2, v3, v4, v5, v6, v7, v8, v9⟩ := rcT.row hp
  cases v1
  have hp1 : p < f.1 := Nat.lt_of_lt_of_le v2 hcb
  refine ⟨g.ocE hp1 v3, q, by rw [g.vlE hp1]; exact v4, ?_⟩
  refine C_rows4 hst (g.rI hcb v9) (Nat.le_succ_of_le hcb) wl (Nat.le_succ_of_le hz1) (Nat.le_succ_of_le hcb) (by omega) (fun c2 => hQ _ _ _ (cop.tr (k := 2) (hb.trans (if_pos c2)) rfl h40 (by omega))) (fun c2 c3 f' q2 => hQ _ _ _ (cop.tr (k := 1) (hb.trans (by rw [if_neg c2, if_pos c3])) rfl h40 (by have := q2.2.2.1; omega))) (fun c2 c3 f' hB => ⟨_, rfl, ?_⟩)
  rw [if_neg c2, if_neg c3] at hb
  have hml : ((zr x).map (fun v => List.replicate v.toNatClampNeg (0 : Int32))).length = (zr x).length := List.length_map ..
  have hzr := zis_rep (zr x)
  have c20 : (zr x).length ≤ 20 := by
    have := mt (Or.inl (b := (∃ v ∈ zr x, 64 < v.toInt) ∨ 200 < ((zr x).map Int32.toNatClampNeg).sum)) c2
    omega
  have c200 : ((zr x).map Int32.toNatClampNeg).sum ≤ 200 := by
    have : ¬ 200 < ((zr x).map Int32.toNatClampNeg).sum := fun z => c2 (Or.inr (Or.inr z))
    omega
  obtain ⟨b1, b2, b3, b4, b5⟩ := hB
  refine C_tabLate hst b1 hcb b3 (b4.trans hml.symm) b2 b5 (fun f2 q1 q2 => ⟨rfl, ?_⟩)
  refine C_fin hst (parts := 1) (f0 := f) hb (cfr.rf JC n s) q2.2.2.1 q1 (by show ¬ 2 = 0; decide) ⟨by omega, by omega, fun r hr => ?_⟩ h26 (by omega) h40 hmd (by show _ ≤ 2 * (4 + 4 * ((zr x).map _).length + zis ((zr x).map _)); omega) hQ
  obtain ⟨v, hv, rfl⟩ := List.mem_map.mp hr
  rw [List.length_replicate]
  have h1 : ¬ v < 0 := fun z => c3 ⟨v, hv, z⟩
  have h2 : ¬ 64 < v.toInt := fun z => c2 (Or.inr (Or.inl ⟨v, hv, z⟩))
  have := (i32_nat h1).1
  omega
end CMk
