/-! THE MODEL: outer, pad -/
theorem i64_toInt (x : Int32) : x.toInt64.toInt = x.toInt := Int32.toInt_toInt64 x
theorem i64_mul {x y : Int64} {p : Int} (h : x.toInt * y.toInt = p) (h1 : -2 ^ 62 ≤ p) (h2 : p < 2 ^ 62) : (x * y).toInt = p := by
  rw [Int64.toInt_mul, h]
  exact Int.bmod_eq_of_le (by omega) (by omega)
theorem i64_add {x y : Int64} {p : Int} (h : x.toInt + y.toInt = p) (h1 : -2 ^ 62 ≤ p) (h2 : p < 2 ^ 62) : (x + y).toInt = p := by
  rw [Int64.toInt_add, h]
  exact Int.bmod_eq_of_le (by omega) (by omega)
theorem i32_rng (x : Int32) : -2 ^ 31 ≤ x.toInt ∧ x.toInt < 2 ^ 31 := ⟨Int32.le_toInt x, Int32.toInt_lt x⟩
section MU
variable {l : Launch} {E : EN} {w : MO} {d : Nat} {s s0 : MS} {Q : Option Value → MS → Prop} {b n md b1 : Nat}
theorem zis_const {α : Type} (g : α → List Int32) (k : Nat) (h : ∀ x, (g x).length = k) : ∀ l : List α, zis (l.map g) = l.length * k
  | [] => by rw [List.length_nil, Nat.zero_mul]; rfl
  | x :: r => by rw [List.map_cons, zis_cons, h, zis_const g k h r, List.length_cons, Nat.succ_mul]; omega
theorem M_outer (hst : l.stackTraces = false) {x y : Th} {vx vy : Int32} (hi : MOk b n md [x, y] s) (hvx : vx = s.2.2.1 107 n) (hvy : vy = s.2.2.1 107 (n + 1)) (hx1 : zk x = 1) (hy1 : zk y = 1) (hQ : ∀ s', mop b n md (zbi2 26 x y) s s' → Q none s') : EvM l E w (d + 4) MX10_outer [.ref w.1, .int vx, .int vy, .int (nI n)] s Q := by
  have ha := hi.acc
  have ha0 := hi.acc0
  have hC := hi.ctx
  have hn := hC.2.1
  have hb := hC.1
  obtain ⟨m4, hx, hy, wx, wy⟩ := hi.two
  rw [← hvx] at hx
  rw [← hvy] at hy
  obtain ⟨-, p, rfl, hr⟩ := hx.thing (by omega)
  obtain ⟨-, q, rfl, hq⟩ := hy.thing (by omega)
  rw [zbi2_26, if_neg (by omega)] at hQ
  rw [zk1 hx1] at hr wx
  rw [zk1 hy1] at hq wy
  generalize zr x = a at hr wx hQ
  generalize zr y = c at hq wy hQ
  have wa : a.length ≤ 64 := wx
  have wc : c.length ≤ 64 := wy
  have hpc : a.length * c.length ≤ 64 * 64 := Nat.mul_le_mul wa wc
  refine eX10_outer hst (M_sizeA hst ha0 hr (by omega) ⟨_, rfl, pk_lt 20 a.length (fun k => ?_) (fun k => ?_) rfl rfl⟩)
  · rw [if_pos (Or.inl k)] at hQ
    exact K_tr hst hC ha0 (by omega) 2 rfl hQ
  · refine M_sizeA hst ha0 hr (by omega) ⟨_, rfl, M_sizeA hst ha0 hq (by omega) ⟨_, rfl, ?_⟩⟩
    rw [show nI (zn (zR a)) * nI (zn (zR c)) = nI (a.length * c.length) from pk_mul _ _]
    refine pk_le (a.length * c.length) 200 (fun k2 => ?_) (fun k2 => ?_) rfl rfl
    · rw [if_neg (by omega)] at hQ
      have hzc : ∀ l : List Int32, zis (l.map (fun u => c.map (fun v => u * v))) = l.length * c.length := zis_const _ _ (fun u => List.length_map ..)
      have hw : ZW (zT (a.map (fun u => c.map (fun v => u * v)))) := by
        refine ⟨by rw [List.length_map]; exact k, by rw [hzc]; exact k2, fun r hr' => ?_⟩
        obtain ⟨u, _, rfl⟩ := List.mem_map.mp hr'
        rw [List.length_map]; exact wc
      have htl : ∀ i, i ≤ a.length → i * c.length ≤ 200 := fun i hi => Nat.le_trans (Nat.mul_le_mul_right _ hi) k2
      have main : ∀ m i (s' : MS), i + m = a.length → MAcc b n s (b + 2 * i + i * c.length) (((a.take i).map (fun u => c.map (fun v => u * v))).map zR) s' → ExM l E w (d + 4) MX10_outer 45 [some (.ref w.1), some (.int (nI p)), some (.int (nI q)), some (.int (nI n)), some (.int (nI i)), none, none] [] s' Q := by
        intro m
        induction m with
        | zero =>
          intro i s' hi hA
          have hi : i = a.length := hi
          subst hi
          rw [List.take_length] at hA
          refine vX10_outer_45 (M_sizeA hst hA hr (by omega) ⟨_, rfl, pk_le a.length a.length (fun _ => K_tab hst hC hA hw.2.2 (by rw [List.length_map, hzc]; omega) (by omega) (fun s2 q2 => hQ s2 ?_)) (fun c => by omega) rfl rfl⟩)
          rw [zmk_ok hw] at q2
          exact q2
        | succ m ih =>
          intro i s' hi hA
          have h1 := htl i (by omega)
          have h2 := htl (i + 1) (by omega)
          rw [Nat.succ_mul] at h2
          have hl : (((a.take i).map (fun u => c.map (fun v => u * v))).map zR).length = i := by rw [List.length_map, List.length_map, List.length_take]; omega
          refine vX10_outer_45 (M_sizeA hst hA hr (by omega) ⟨_, rfl, pk_le a.length i (fun c => by omega) (fun _ y4 e4 => ?_) rfl rfl⟩)
          rw [hA.sp] at e4
          subst e4
          have inner : ∀ m' j (s2 : MS), j + m' = c.length → MAcc b n s (b + 2 * i + i * c.length) (((a.take i).map (fun u => c.map (fun v => u * v))).map zR ++ ((c.take j).map (fun v => a.getD i 0 * v)).map zI) s2 → ExM l E w (d + 4) MX10_outer 64 [some (.ref w.1), some (.int (nI p)), some (.int (nI q)), some (.int (nI n)), some (.int (nI i)), some (.int (nI (n + (((a.take i).map (fun u => c.map (fun v => u * v))).map zR).length))), some (.int (nI j))] [] s2 Q := by
            intro m'
            induction m' with
            | zero =>
              intro j s2 hj hA2
              have hj : j = c.length := hj
              subst hj
              rw [List.take_length] at hA2
              refine vX10_outer_64 (M_sizeA hst hA2 hq (by omega) ⟨_, rfl, pk_le c.length c.length (fun _ => hA2.rowOf hst (by rw [List.length_map]; omega) (by omega) (fun s3 q3 => ⟨rfl, ?_⟩)) (fun c => by omega) rfl rfl⟩)
              rw [nI_1]
              refine ih (i + 1) s3 (by omega) ?_
              rw [List.length_map] at q3
              rw [take_succ_getD a 0 i (by omega), List.map_append, List.map_append, show (i + 1) * c.length = i * c.length + c.length from Nat.succ_mul i _]
              have e : b + 2 * i + i * c.length + 2 + c.length = b + 2 * (i + 1) + (i * c.length + c.length) := by omega
              rw [e] at q3
              exact q3
            | succ m' ihj =>
              intro j s2 hj hA2
              obtain ⟨r1, r2⟩ := hA2.rowAt hr (show i < a.length by omega)
              obtain ⟨t1, t2⟩ := hA2.rowAt hq (show j < c.length by omega)
              refine vX10_outer_64 (M_sizeA hst hA2 hq (by omega) ⟨_, rfl, pk_le c.length j (fun c => by omega) (fun _ => ?_) rfl rfl⟩)
              rw [nI_l2, nI_l2, nI_add, nI_add, nI_clamp (by omega), nI_clamp (by omega), r2, t2]
              refine ⟨inB_n (by omega), inB_n (by omega), hA2.pI hst (by rw [List.length_append, hl, List.length_map, List.length_map, List.length_take]; omega) (fun s3 q3 => ?_)⟩
              rw [nI_1]
              refine ihj (j + 1) s3 (by omega) ?_
              rw [take_succ_getD c 0 j (by omega), List.map_append, List.map_append, ← List.append_assoc]
              exact q3
          exact inner c.length 0 s' (by omega) (by rw [List.take_zero, List.map_nil, List.map_nil, List.append_nil]; exact hA)
      exact main a.length 0 _ (by omega) (by rw [Nat.zero_mul]; exact ha)
    · rw [if_pos (Or.inr k2)] at hQ
      exact K_tr hst hC ha0 (by omega) 2 rfl hQ
theorem M_pad (hst : l.stackTraces = false) {x y : Th} {vx : Int32} (hi : MOk b n md [x, y] s) (hvx : vx = s.2.2.1 107 n) (hx2 : zk x = 2) (hy0 : zk y = 0) (hQ : ∀ s', mop b n md (zbi2 25 x y) s s' → Q none s') : EvM l E w (d + 4) MX10_pad [.ref w.1, .int vx, .int (zv y), .int (nI n)] s Q := by
  have ha := hi.acc
  have ha0 := hi.acc0
  have hC := hi.ctx
  have hn := hC.2.1
  have hb := hC.1
  obtain ⟨m4, hx, hy, wx, wy⟩ := hi.two
  rw [← hvx] at hx
  obtain ⟨-, p, rfl, hr⟩ := hx.thing (by omega)
  rw [zbi2_25, if_neg (by omega)] at hQ
  have ez : zn x = (zt x).length := by rw [zk2 hx2]; rfl
  rw [ez] at hQ
  rw [zk2 hx2] at hr wx
  generalize zt x = a at hr wx hQ
  obtain ⟨g1, g2, g3⟩ : a.length ≤ 20 ∧ zis a ≤ 200 ∧ ∀ r ∈ a, r.length ≤ 64 := wx
  generalize zv y = v at hQ
  refine eX10_pad hst ⟨fun c => ?_, fun c => ?_⟩
  · rw [if_pos (Or.inl (show (64 : Int) < v.toInt from (i32_lt (n := 64) (by omega)).mp c))] at hQ
    exact K_tr hst hC ha0 (by omega) 2 rfl hQ
  · have c64 := mt (i32_lt (n := 64) (by omega)).mpr c
    obtain ⟨v1, v2⟩ := i32_rng v
    have e : lg_cmp ((nI a.length).toInt64 * v.toInt64) 200 ≤ 0 ↔ (a.length : Int) * v.toInt ≤ 200 := by
      rw [lg_cmp_le, Int64.le_iff_toInt_le]
      have hm : ((nI a.length).toInt64 * v.toInt64).toInt = (a.length : Int) * v.toInt := by
        refine i64_mul (by rw [i64_toInt, i64_toInt, nI_toInt (by omega)]) ?_ ?_
        · have : (a.length : Int) * (-2 ^ 31) ≤ (a.length : Int) * v.toInt := Int.mul_le_mul_of_nonneg_left v1 (by omega)
          omega
        · have : (a.length : Int) * v.toInt ≤ (a.length : Int) * 64 := Int.mul_le_mul_of_nonneg_left (by omega) (by omega)
          omega
      rw [hm]
      exact Iff.rfl
    refine M_sizeA hst ha0 hr (by omega) ⟨_, rfl, ?_⟩
    show (lg_cmp ((nI a.length).toInt64 * v.toInt64) 200 ≤ 0 → _) ∧ (¬ lg_cmp ((nI a.length).toInt64 * v.toInt64) 200 ≤ 0 → _)
    rw [e]
    refine ⟨fun c2 => ⟨fun c3 => ?_, fun c3 => ?_⟩, fun c2 => ?_⟩
    · have nv : ¬ v < 0 := Int32.not_lt.mpr c3
      rw [if_neg (by omega), if_neg nv] at hQ
      obtain ⟨z1, z2⟩ := i32_nat nv
      generalize v.toNatClampNeg = z at z1 z2 hQ
      subst z2
      have hz64 : z ≤ 64 := by omega
      have hlz : a.length * z ≤ 200 := by
        rw [← z1] at c2
        have : ((a.length * z : Nat) : Int) = (a.length : Int) * (z : Int) := Int.natCast_mul _ _
        omega
      have hlen : ∀ r : List Int32, ((r ++ List.replicate z (0 : Int32)).take z).length = z := by
        intro r
        rw [List.length_take, List.length_append, List.length_replicate]; omega
      have hzc : ∀ l : List (List Int32), zis (l.map (fun r => (r ++ List.replicate z (0 : Int32)).take z)) = l.length * z := zis_const _ _ hlen
      have hw : ZW (zT (a.map (fun r => (r ++ List.replicate z (0 : Int32)).take z))) := by
        refine ⟨by rw [List.length_map]; exact g1, by rw [hzc]; exact hlz, fun r hr' => ?_⟩
        obtain ⟨u, _, rfl⟩ := List.mem_map.mp hr'
        rw [hlen]; exact hz64
      have htl : ∀ i, i ≤ a.length → i * z ≤ 200 := fun i hi => Nat.le_trans (Nat.mul_le_mul_right _ hi) hlz
      have main : ∀ m i (s' : MS), i + m = a.length → MAcc b n s (b + 2 * i + i * z) (((a.take i).map (fun r => (r ++ List.replicate z (0 : Int32)).take z)).map zR) s' → ExM l E w (d + 4) MX10_pad 65 [some (.ref w.1), some (.int (nI p)), some (.int (nI z)), some (.int (nI n)), none, some (.int (nI i)), none, none, none] [] s' Q := by
        intro m
        induction m with
        | zero =>
          intro i s' hi hA
          have hi : i = a.length := hi
          subst hi
          rw [List.take_length] at hA
          refine vX10_pad_65 (M_sizeA hst hA hr (by omega) ⟨_, rfl, pk_le a.length a.length (fun _ => K_tab hst hC hA hw.2.2 (by rw [List.length_map, hzc]; omega) (by omega) (fun s2 q2 => hQ s2 ?_)) (fun c => by omega) rfl rfl⟩)
          rw [zmk_ok hw] at q2
          exact q2
        | succ m ih =>
          intro i s' hi hA
          have h1 := htl i (by omega)
          have h2 := htl (i + 1) (by omega)
          rw [Nat.succ_mul] at h2
          have hl : (((a.take i).map (fun r => (r ++ List.replicate z (0 : Int32)).take z)).map zR).length = i := by rw [List.length_map, List.length_map, List.length_take]; omega
          have hel : zel (zT a) i = zR (a.getD i []) := getD_map zR a [] (zI 0) (by omega)
          have h64 := g3 _ (getD_mem [] (show i < a.length by omega))
          refine vX10_pad_65 (M_sizeA hst hA hr (by omega) ⟨_, rfl, pk_le a.length i (fun c => by omega) (fun _ => ?_) rfl rfl⟩)
          refine M_partA hst hA hr (by omega) (show i < a.length by omega) (by show 1 < 2; decide) (by show ¬ zk (zel (zT a) i) = 0; rw [hel]; show ¬ 1 = 0; decide) (fun q hq => ⟨_, rfl, fun y6 e6 => ?_⟩)
          have hq : rmT (s.2.2.1 104) b true (zel (zT a) i) q 0 := hq
          rw [hel] at hq
          rw [hA.sp] at e6
          subst e6
          have hts := take_succ_getD a [] i (by omega)
          generalize a.getD i [] = r at hq h64 hts
          have inner : ∀ m' j (s2 : MS), j + m' = z → MAcc b n s (b + 2 * i + i * z) (((a.take i).map (fun r => (r ++ List.replicate z (0 : Int32)).take z)).map zR ++ ((r ++ List.replicate z (0 : Int32)).take j).map zI) s2 → ExM l E w (d + 4) MX10_pad 93 [some (.ref w.1), some (.int (nI p)), some (.int (nI z)), some (.int (nI n)), none, some (.int (nI i)), some (.int (nI q)), some (.int (nI (n + (((a.take i).map (fun r => (r ++ List.replicate z (0 : Int32)).take z)).map zR).length))), some (.int (nI j))] [] s2 Q := by
            intro m'
            induction m' with
            | zero =>
              intro j s2 hj hA2
              have hj : j = z := hj
              subst hj
              refine vX10_pad_93 (pk_le j j (fun _ => hA2.rowOf hst (by rw [hlen]; omega) (by omega) (fun s3 q3 => ⟨rfl, ?_⟩)) (fun c => by omega) rfl rfl)
              rw [nI_1]
              refine ih (i + 1) s3 (by omega) ?_
              rw [hlen] at q3
              rw [hts, List.map_append, List.map_append, show (i + 1) * j = i * j + j from Nat.succ_mul i _]
              have e : b + 2 * i + i * j + 2 + j = b + 2 * (i + 1) + (i * j + j) := by omega
              rw [e] at q3
              exact q3
            | succ m' ihj =>
              intro j s2 hj hA2
              have hpl : n + (((a.take i).map (fun r => (r ++ List.replicate z (0 : Int32)).take z)).map zR ++ ((r ++ List.replicate z (0 : Int32)).take j).map zI).length < 8900 := by
                rw [List.length_append, hl, List.length_map, List.length_take]; omega
              have hts2 := take_succ_getD (r ++ List.replicate z (0 : Int32)) 0 j (by rw [List.length_append, List.length_replicate]; omega)
              have nx : ∀ u, u = (r ++ List.replicate z (0 : Int32)).getD j 0 → ∀ s3, MAcc b n s (b + 2 * i + i * z) (((a.take i).map (fun r => (r ++ List.replicate z (0 : Int32)).take z)).map zR ++ ((r ++ List.replicate z (0 : Int32)).take j).map zI ++ [zI u]) s3 → ExM l E w (d + 4) MX10_pad 93 [some (.ref w.1), some (.int (nI p)), some (.int (nI z)), some (.int (nI n)), none, some (.int (nI i)), some (.int (nI q)), some (.int (nI (n + (((a.take i).map (fun r => (r ++ List.replicate z (0 : Int32)).take z)).map zR).length))), some (.int (nI j + 1))] [] s3 Q := by
                intro u eu s3 q3
                rw [nI_1]
                refine ihj (j + 1) s3 (by omega) ?_
                rw [hts2, List.map_append, ← List.append_assoc, ← eu]
                exact q3
              refine vX10_pad_93 (pk_le z j (fun c => by omega) (fun _ => M_sizeA hst hA2 hq (by omega) ⟨_, rfl, pk_le r.length j (fun k => ?_) (fun k => ?_) rfl rfl⟩) rfl rfl)
              · refine hA2.pI hst hpl (nx 0 ?_)
                obtain ⟨t, rfl⟩ : ∃ t, j = r.length + t := ⟨j - r.length, by omega⟩
                rw [getD_app2, getD_rep z 0 0 (by omega)]
              · obtain ⟨t1, t2⟩ := hA2.rowAt hq k
                rw [nI_l2, nI_add, nI_clamp (by omega), t2]
                refine ⟨inB_n (by omega), hA2.pI hst hpl (nx _ ?_)⟩
                rw [getD_app1 _ _ k]
          exact inner z 0 s' (by omega) (by rw [List.take_zero, List.map_nil, List.append_nil]; exact hA)
      exact main a.length 0 _ (by omega) (by rw [Nat.zero_mul]; exact ha)
    · have nv : v < 0 := Int32.not_le.mp c3
      rw [if_neg (by omega), if_pos nv] at hQ
      exact K_tr hst hC ha0 (by omega) 1 rfl hQ
    · rw [if_pos (Or.inr (by omega))] at hQ
      exact K_tr hst hC ha0 (by omega) 2 rfl hQ
end MU
