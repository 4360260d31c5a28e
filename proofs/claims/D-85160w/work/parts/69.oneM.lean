theorem MAcc.mopI {b n md b1 : Nat} {s0 s : MS} {v : Int32} (ha : MAcc b n s0 b1 [zI v] s) (hb : b1 = b) (hmd : s0.1 119 = nI md) (h0 : s0.1 123 = 0) : mop b n md (.inr (zI v)) s0 s := by
  subst hb
  refine ⟨ha.1.mono (J' := J1), (ha.1.1 119 (by decide)).trans hmd, b1, Nat.le_refl _, Nat.le_refl _, ha.2.2.1, ?_⟩
  rw [if_neg (fun z => z.2 rfl)]
  exact ⟨(ha.1.1 123 (by decide)).trans h0, ha.1.1 124 (by decide), ha.2.2⟩
theorem zof1 (l : List Int32) : zof 1 (l.map zI) = zR l := by
  show zR ((l.map zI).map zv) = _
  rw [List.map_map]
  congr 3
  exact (List.map_congr_left (fun _ _ => rfl)).trans (List.map_id l)
theorem zof2 (l : List (List Int32)) : zof 2 (l.map zR) = zT l := by
  show zT ((l.map zR).map zr) = _
  rw [List.map_map]
  congr 3
  exact (List.map_congr_left (fun _ _ => rfl)).trans (List.map_id l)
theorem zk_map0 (l : List Int32) : ∀ v ∈ l.map zI, zk v = 0 ∧ ZW v := by
  intro v hv
  obtain ⟨x, _, rfl⟩ := List.mem_map.mp hv
  exact ⟨rfl, trivial⟩
theorem zk_map1 (l : List (List Int32)) (h : ∀ r ∈ l, r.length ≤ 64) : ∀ v ∈ l.map zR, zk v = 1 ∧ ZW v := by
  intro v hv
  obtain ⟨x, hx, rfl⟩ := List.mem_map.mp hv
  exact ⟨rfl, h x hx⟩
section MO2
variable {l : Launch} {E : EN} {w : MO} {d : Nat} {s : MS} {Q : Option Value → MS → Prop}
/-- INTS on the pile become a row: the end of an order -/
theorem M_brow (hst : l.stackTraces = false) {b n md : Nat} {is : List Int32} {s0 : MS} (ha : MAcc b n s0 b (is.map zI) s) (hb : b ≤ 157600) (hn8 : n < 8900) (hmd : s0.1 119 = nI md) (hm3 : md ≤ 3000) (h0 : s0.1 123 = 0) (hQ : ∀ s', mop b n md (zmk (zR is)) s0 s' → Q none s') : EvM l E w (d + 3) MX10_builds [.ref w.1, .int 1, .int (nI n)] s Q := by
  refine M_bmop hst (k := 1) ha (Or.inl rfl) (fun _ v hv => (zk_map0 is v hv).1) (fun c => absurd c (by decide)) (fun v hv => (zk_map0 is v hv).2) (by omega) hn8 hmd hm3 h0 ?_ (by omega) (fun s' q => hQ s' (by rw [zof1] at q; exact q))
  intro _
  rw [zof1, if_neg (by decide), List.length_map]
  show _ ≤ b + (4 + is.length)
  omega
/-- rows on the pile become a table: the end of an order -/
theorem M_btab (hst : l.stackTraces = false) {b n md b1 : Nat} {rs : List (List Int32)} {s0 : MS} (ha : MAcc b n s0 b1 (rs.map zR) s) (hr : ∀ r ∈ rs, r.length ≤ 64) (hb : b ≤ 157600) (hn8 : n < 8900) (h1 : b1 ≤ b + 2 * rs.length + zis rs) (hx : b1 ≤ b + 300) (hmd : s0.1 119 = nI md) (hm3 : md ≤ 3000) (h0 : s0.1 123 = 0) (hQ : ∀ s', mop b n md (zmk (zT rs)) s0 s' → Q none s') : EvM l E w (d + 3) MX10_builds [.ref w.1, .int 2, .int (nI n)] s Q := by
  refine M_bmop hst (k := 2) ha (Or.inr (Or.inl rfl)) (fun c => absurd c (by decide)) (fun _ v hv => (zk_map1 rs hr v hv).1) (fun v hv => (zk_map1 rs hr v hv).2) (by omega) hn8 hmd hm3 h0 ?_ hx (fun s' q => hQ s' (by rw [zof2] at q; exact q))
  intro _
  rw [zof2, if_neg (by decide), List.length_map]
  show _ ≤ b + (4 + 4 * rs.length + zis rs)
  omega
theorem M_single (hst : l.stackTraces = false) {nt : Bool} {v : Int32} (hQ : Q (some (.int (zone1 nt v))) s) : EvM l E w d MX10_single [.int (if nt = true then 33 else 45), .int v] s Q := by
  cases nt with
  | true =>
    refine eX10_single hst ⟨fun _ => ⟨fun c => ?_, fun c => ?_⟩, fun c => absurd c (by decide)⟩
    · have : zone1 true v = 0 := if_neg c
      rw [this] at hQ; exact hQ
    · have : zone1 true v = 1 := if_pos c
      rw [this] at hQ; exact hQ
  | false =>
    refine eX10_single hst ⟨fun c => absurd rfl c, fun _ => ?_⟩
    have : zone1 false v = -v := by show 0 - v = -v; exact Int32.zero_sub v
    rw [this] at hQ; exact hQ
theorem M_one (hst : l.stackTraces = false) {b n md : Nat} {x : Th} {nt : Bool} (hi : MOk b n md [x] s) (hQ : ∀ s', mop b n md (zone nt x) s s' → Q none s') : EvM l E w (d + 4) MX10_one [.ref w.1, .int (if nt = true then 33 else 45)] s Q := by
  have ha := hi.acc
  obtain ⟨⟨m1, m2, m3, m4, m5⟩, hb, hn, hmd, hm3, h0, hw⟩ := hi
  have hx := m5 0 Nat.zero_lt_one
  have m4 : s.1 108 = nI (n + 1) := m4
  refine eX10_one hst ?_
  rw [m4, nI_pred]
  refine M_kindAt hst hx (by omega) (by omega) ⟨_, rfl, ?_⟩
  rw [m4, nI_pred, nI_clamp (by omega)]
  refine ⟨inB_n (by omega), fun y3 e3 y4 e4 => ?_⟩
  subst e3 e4
  have hw := hw x (List.mem_singleton.mpr rfl)
  have hx : rmV (s.2.2.1 104) b (s.2.2.1 106 n) (s.2.2.1 107 n) x := hx
  show (¬ nI (zk x) = 3 → _) ∧ _
  rcases zcases hw with ⟨v, rfl⟩ | ⟨a, rfl, g1⟩ | ⟨a, rfl, g1, g2, g3⟩ | ⟨tx, rfl, g1, g2, g3, g4⟩
  · refine ⟨fun _ => ⟨fun c => absurd rfl c, fun _ => ?_⟩, fun c => absurd c (by show ¬ nI 0 = 3; decide)⟩
    have hv : s.2.2.1 107 n = v := by
      rcases hx with ⟨_, _, q⟩ | ⟨q, _⟩
      · exact q
      · exact absurd rfl q
    rw [hv]
    refine M_single hst ⟨_, rfl, M_push hst rfl (by omega) ⟨rfl, hQ _ ?_⟩⟩
    exact MAcc.mopI (ha.pushI _ (by show n + 0 < 8900; omega)) rfl hmd h0
  · refine ⟨fun _ => ⟨fun _ => ⟨fun c => absurd rfl c, fun _ => ?_⟩, fun c => absurd c (by show ¬ nI 1 = 0; decide)⟩, fun c => absurd c (by show ¬ nI 1 = 3; decide)⟩
    obtain ⟨-, p, hv, hr⟩ := hx.thing (by show ¬ 1 = 0; decide)
    rw [hv]
    have main : ∀ m i (s' : MS), i + m = a.length → MAcc b n s b (((a.take i).map (zone1 nt)).map zI) s' → ExM l E w (d + 4) MX10_one 79 [some (.ref w.1), some (.int (if nt = true then 33 else 45)), none, some (.int (nI p)), some (.int (nI n)), some (.int (nI i)), none, none, none] [] s' Q := by
      intro m
      induction m with
      | zero =>
        intro i s' hi' hA
        have hi' : i = a.length := hi'
        subst hi'
        rw [List.take_length] at hA
        refine vX10_one_79 (M_sizeA hst hA hr (by omega) ⟨_, rfl, pk_le a.length a.length (fun _ => ?_) (fun c => by omega) rfl rfl⟩)
        refine M_brow hst hA hb (by omega) hmd hm3 h0 (fun s'' q => ⟨rfl, hQ s'' ?_⟩)
        rw [zmk_ok (show ZW (zR (a.map (zone1 nt))) by show (a.map _).length ≤ 64; rw [List.length_map]; exact g1)] at q
        exact q
      | succ m ih =>
        intro i s' hi' hA
        obtain ⟨r1, r2⟩ := hA.rowAt hr (show i < a.length by omega)
        refine vX10_one_79 (M_sizeA hst hA hr (by omega) ⟨_, rfl, pk_le a.length i (fun c => by omega) (fun _ => ?_) rfl rfl⟩)
        rw [nI_l2, nI_add, nI_clamp (by omega), r2]
        have hln : (((a.take i).map (zone1 nt)).map zI).length = i := by rw [List.length_map, List.length_map, List.length_take]; omega
        have hsp := hA.sp
        rw [hln] at hsp
        refine ⟨inB_n (by omega), M_single hst ⟨_, rfl, M_push hst hsp (by omega) ⟨rfl, ?_⟩⟩⟩
        rw [nI_1]
        refine ih (i + 1) _ (by omega) ?_
        have := hA.pushI (zone1 nt (a.getD i 0)) (by rw [hln]; omega)
        rw [hln] at this
        rw [take_succ_getD a 0 i (by omega), List.map_append, List.map_append]
        exact this
    exact main a.length 0 _ (by omega) ha
  · refine ⟨fun _ => ⟨fun _ => ⟨fun _ => ?_, fun c => absurd c (by show ¬ nI 2 = 1; decide)⟩, fun c => absurd c (by show ¬ nI 2 = 0; decide)⟩, fun c => absurd c (by show ¬ nI 2 = 3; decide)⟩
    obtain ⟨-, p, hv, hr⟩ := hx.thing (by show ¬ 2 = 0; decide)
    rw [hv]
    have hzt : ∀ i, zis (a.take i) ≤ 200 := fun i => by
      have := zis_app (a.take i) (a.drop i)
      rw [List.take_append_drop] at this
      omega
    have main : ∀ m i (s' : MS), i + m = a.length → MAcc b n s (b + 2 * i + zis (a.take i)) (((a.take i).map (List.map (zone1 nt))).map zR) s' → ExM l E w (d + 4) MX10_one 128 [some (.ref w.1), some (.int (if nt = true then 33 else 45)), none, some (.int (nI p)), some (.int (nI n)), some (.int (nI i)), none, none, none] [] s' Q := by
      intro m
      induction m with
      | zero =>
        intro i s' hi' hA
        have hi' : i = a.length := hi'
        subst hi'
        have hz' := hzt a.length
        rw [List.take_length] at hA hz'
        have hln : zis (a.map (List.map (zone1 nt))) = zis a := by
          unfold zis
          rw [List.map_map]
          congr 1
          exact List.map_congr_left (fun r _ => List.length_map ..)
        have hw' : ZW (zT (a.map (List.map (zone1 nt)))) := by
          refine ⟨by rw [List.length_map]; exact g1, by rw [hln]; exact g2, fun r hr' => ?_⟩
          obtain ⟨r0, q1, rfl⟩ := List.mem_map.mp hr'
          rw [List.length_map]; exact g3 r0 q1
        refine vX10_one_128 (M_sizeA hst hA hr (by omega) ⟨_, rfl, pk_le a.length a.length (fun _ => ?_) (fun c => by omega) rfl rfl⟩)
        refine M_btab hst hA (fun r hr' => hw'.2.2 r hr') hb (by omega) (by rw [List.length_map, hln]; omega) (by omega) hmd hm3 h0 (fun s'' q => ⟨rfl, hQ s'' ?_⟩)
        rw [zmk_ok hw'] at q
        exact q
      | succ m ih =>
        intro i s' hi' hA
        have hz' := hzt i
        have hz2 := hzt (i + 1)
        have hts := take_succ_getD a [] i (by omega)
        have hza : zis (a.take (i + 1)) = zis (a.take i) + (a.getD i []).length := by rw [hts, zis_app, zis_cons, zis_nil]; rfl
        have hr64 := g3 _ (getD_mem [] (show i < a.length by omega))
        refine vX10_one_128 (M_sizeA hst hA hr (by omega) ⟨_, rfl, pk_le a.length i (fun c => by omega) (fun _ => ?_) rfl rfl⟩)
        have hel : zel (zT a) i = zR (a.getD i []) := getD_map zR a [] (zI 0) (by omega)
        refine M_partA hst hA hr (by omega) (show i < a.length by omega) (by show 1 < 2; decide) (by show ¬ zk (zel (zT a) i) = 0; rw [hel]; show ¬ 1 = 0; decide) (fun q hq => ⟨_, rfl, fun y6 e6 => ?_⟩)
        have hq : rmT (s.2.2.1 104) b true (zel (zT a) i) q 0 := hq
        rw [hel] at hq
        have hln : (((a.take i).map (List.map (zone1 nt))).map zR).length = i := by rw [List.length_map, List.length_map, List.length_take]; omega
        have hsp := hA.sp
        rw [hln] at hsp
        rw [hsp] at e6
        subst e6
        revert hts hza hr64 hq
        generalize a.getD i [] = r
        intro hts hza hr64 hq
        have inner : ∀ m' j (s' : MS), j + m' = r.length → MAcc b n s (b + 2 * i + zis (a.take i)) (((a.take i).map (List.map (zone1 nt))).map zR ++ ((r.take j).map (zone1 nt)).map zI) s' → ExM l E w (d + 4) MX10_one 156 [some (.ref w.1), some (.int (if nt = true then 33 else 45)), none, some (.int (nI p)), some (.int (nI n)), some (.int (nI i)), some (.int (nI q)), some (.int (nI (n + i))), some (.int (nI j))] [] s' Q := by
          intro m'
          induction m' with
          | zero =>
            intro j s' hj hA
            have hj : j = r.length := hj
            subst hj
            rw [List.take_length] at hA
            refine vX10_one_156 (M_sizeA hst hA hq (by omega) ⟨_, rfl, pk_le r.length r.length (fun _ => ?_) (fun c => by omega) rfl rfl⟩)
            have := hA.rowOf (d := d + 2) (E := E) (w := w) (Q := fun r s3 => r = none ∧ ExM l E w (d + 4) MX10_one 128 [some (.ref w.1), some (.int (if nt = true then 33 else 45)), none, some (.int (nI p)), some (.int (nI n)), some (.int (nI i + 1)), none, none, none] [] s3 Q) hst (by rw [List.length_map]; omega) (by rw [hln]; omega) (fun s3 q3 => ⟨rfl, ?_⟩)
            · rw [hln] at this
              exact this
            · rw [nI_1]
              refine ih (i + 1) s3 (by omega) ?_
              rw [List.length_map] at q3
              rw [hza, hts, List.map_append, List.map_append]
              have e : b + 2 * i + zis (a.take i) + 2 + r.length = b + 2 * (i + 1) + (zis (a.take i) + r.length) := by omega
              rw [e] at q3
              exact q3
          | succ m' ihj =>
            intro j s' hj hA
            obtain ⟨r1, r2⟩ := hA.rowAt hq (show j < r.length by omega)
            refine vX10_one_156 (M_sizeA hst hA hq (by omega) ⟨_, rfl, pk_le r.length j (fun c => by omega) (fun _ => ?_) rfl rfl⟩)
            rw [nI_l2, nI_add, nI_clamp (by omega), r2]
            have hl2 : (((a.take i).map (List.map (zone1 nt))).map zR ++ ((r.take j).map (zone1 nt)).map zI).length = i + j := by rw [List.length_append, hln, List.length_map, List.length_map, List.length_take]; omega
            have hsp := hA.sp
            rw [hl2] at hsp
            refine ⟨inB_n (by omega), M_single hst ⟨_, rfl, M_push hst hsp (by omega) ⟨rfl, ?_⟩⟩⟩
            rw [nI_1]
            refine ihj (j + 1) _ (by omega) ?_
            have := hA.pushI (zone1 nt (r.getD j 0)) (by rw [hl2]; omega)
            rw [hl2] at this
            rw [take_succ_getD r 0 j (by omega), List.map_append, List.map_append, ← List.append_assoc]
            exact this
        refine inner r.length 0 _ (by omega) ?_
        rw [List.take_zero, List.map_nil, List.map_nil, List.append_nil]
        exact hA
    exact main a.length 0 _ (by omega) ha
  · refine ⟨fun c => absurd rfl c, fun _ => ?_⟩
    exact M_tmop hst ha.1 m1 (Nat.le_refl b) (by omega) hmd h0 rfl rfl (fun s' q => ⟨rfl, hQ s' q⟩)
end MO2
