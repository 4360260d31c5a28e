/-! THE MODEL: cut -/
theorem zsumI_snoc (l : List Int32) (v : Int32) : zsumI (l ++ [v]) = zsumI l + v.toInt := by
  unfold zsumI
  rw [List.map_append, List.sum_append]; simp
theorem zsumI_bd : ∀ l : List Int32, -(2 ^ 31 * (l.length : Int)) ≤ zsumI l ∧ zsumI l ≤ 2 ^ 31 * (l.length : Int)
  | [] => by unfold zsumI; simp
  | x :: r => by
    have h := zsumI_bd r
    have hx := i32_rng x
    have e : zsumI (x :: r) = x.toInt + zsumI r := by unfold zsumI; rw [List.map_cons, List.sum_cons]
    rw [e, List.length_cons]
    omega
theorem zsumI_nat : ∀ l : List Int32, (∀ v ∈ l, ¬ v < 0) → zsumI l = (((l.map Int32.toNatClampNeg).sum : Nat) : Int)
  | [], _ => rfl
  | x :: r, h => by
    have e : zsumI (x :: r) = x.toInt + zsumI r := by unfold zsumI; rw [List.map_cons, List.sum_cons]
    rw [e, zsumI_nat r (fun v hv => h v (List.mem_cons_of_mem _ hv)), List.map_cons, List.sum_cons, ← (i32_nat (h x List.mem_cons_self)).1]
    omega
section MC
variable {l : Launch} {E : EN} {w : MO} {d : Nat} {s s0 : MS} {Q : Option Value → MS → Prop} {b n md b1 : Nat}
theorem M_cut (hst : l.stackTraces = false) {x y : Th} {vx vy : Int32} (hi : MOk b n md [x, y] s) (hvx : vx = s.2.2.1 107 n) (hvy : vy = s.2.2.1 107 (n + 1)) (hx1 : zk x = 1) (hy1 : zk y = 1) (hQ : ∀ s', mop b n md (zbi2 22 x y) s s' → Q none s') : EvM l E w (d + 4) MX10_cut [.ref w.1, .int vx, .int vy, .int (nI n)] s Q := by
  have ha := hi.acc
  have ha0 := hi.acc0
  have hC := hi.ctx
  have hn := hC.2.1
  have hb := hC.1
  obtain ⟨m4, hx, hy, wx, wy⟩ := hi.two
  rw [← hvx] at hx
  rw [← hvy] at hy
  obtain ⟨-, p, rfl, hr⟩ := hx.thing (by omega)
  obtain ⟨-, q, rfl, hq⟩ := hy.thing (by omega)
  rw [zbi2_22, if_neg (by omega)] at hQ
  rw [zk1 hx1] at hr wx
  rw [zk1 hy1] at hq wy
  generalize zr x = a at hr wx hQ
  generalize zr y = r at hq wy hQ
  have wa : a.length ≤ 64 := wx
  have wr : r.length ≤ 64 := wy
  -- what is cut
  have h137 : r.length ≤ 20 → (∀ v ∈ r, ¬ v < 0) → (r.map Int32.toNatClampNeg).sum = a.length → (∀ s', mop b n md (.inr (zT (zcut a r))) s s' → Q none s') → ∀ m i (s' : MS) (R : List (List Int32)) (P : Nat), i + m = r.length → R.length = i → P = ((r.take i).map Int32.toNatClampNeg).sum → zcut a r = R ++ zcut (a.drop P) (r.drop i) → zis R = P → (∀ u ∈ R, u.length ≤ 64) → MAcc b n s (b + 2 * i + P) (R.map zR) s' → ExM l E w (d + 4) MX10_cut 137 [some (.ref w.1), some (.int (nI p)), some (.int (nI q)), some (.int (nI n)), some (.int (nI r.length)), none, none, none, some (.int (nI P)), some (.int (nI i)), none, none] [] s' Q := by
    intro h20 hpos hsum hQ m
    have hPle : ∀ i, ((r.take i).map Int32.toNatClampNeg).sum ≤ a.length := by
      intro i
      have e : (r.map Int32.toNatClampNeg).sum = ((r.take i).map Int32.toNatClampNeg).sum + ((r.drop i).map Int32.toNatClampNeg).sum := by
        rw [← List.sum_append, ← List.map_append, List.take_append_drop]
      omega
    induction m with
    | zero =>
      intro i s' R P hi hRl hP hz hRz hR6 hA
      have hi : i = r.length := hi
      have hp := hPle i
      rw [List.drop_of_length_le (by omega : r.length ≤ i)] at hz
      have hz : zcut a r = R := by
        rw [hz]
        show R ++ zcut (a.drop P) [] = R
        have : ∀ l : List Int32, zcut l [] = [] := fun l => by cases l <;> rfl
        rw [this, List.append_nil]
      rw [hz] at hQ
      have hw : ZW (zT R) := ⟨by omega, by omega, hR6⟩
      refine vX10_cut_137 (pk_le r.length i (fun _ => K_tab hst hC hA hR6 (by omega) (by omega) (fun s2 q2 => hQ s2 ?_)) (fun c => by omega) rfl rfl)
      rw [zmk_ok hw] at q2
      exact q2
    | succ m ih =>
      intro i s' R P hi hRl hP hz hRz hR6 hA
      have hp := hPle i
      have hp1 := hPle (i + 1)
      have hts := take_succ_getD r 0 i (by omega)
      have hmem := getD_mem (0 : Int32) (show i < r.length by omega)
      obtain ⟨z1, z2⟩ := i32_nat (hpos _ hmem)
      have hP1 : ((r.take (i + 1)).map Int32.toNatClampNeg).sum = P + (r.getD i 0).toNatClampNeg := by
        rw [hts, List.map_append, List.sum_append, hP]; simp
      obtain ⟨t1, t2⟩ := hA.rowAt hq (show i < r.length by omega)
      have hdr : r.drop i = r.getD i 0 :: r.drop (i + 1) := by
        rw [getD_lt _ (by omega)]; exact List.drop_eq_getElem_cons (by omega)
      have hz' : zcut a r = R ++ [(a.drop P).take (r.getD i 0).toNatClampNeg] ++ zcut (a.drop (P + (r.getD i 0).toNatClampNeg)) (r.drop (i + 1)) := by
        rw [hz, hdr, List.append_assoc]
        have : ∀ (X : List Int32) (v : Int32) (L : List Int32), zcut X (v :: L) = X.take v.toNatClampNeg :: zcut (X.drop v.toNatClampNeg) L := fun X v L => by cases X <;> rfl
        rw [this, List.drop_drop]
        rfl
      generalize (r.getD i 0).toNatClampNeg = z at z1 z2 hP1 hz'
      rw [z2] at t2
      have hlt : ((a.drop P).take z).length = z := by rw [List.length_take, List.length_drop]; omega
      refine vX10_cut_137 (pk_le r.length i (fun c => by omega) (fun _ y2 e2 => ?_) rfl rfl)
      rw [hA.sp] at e2
      subst e2
      rw [nI_l2, nI_add, nI_clamp (by omega), t2]
      refine ⟨inB_n (by omega), fun y3 e3 => ?_⟩
      rw [nI_add] at e3
      subst e3
      have inner : ∀ m' j (s2 : MS), j + m' = z → MAcc b n s (b + 2 * i + P) (R.map zR ++ ((a.drop P).take j).map zI) s2 → ExM l E w (d + 4) MX10_cut 166 [some (.ref w.1), some (.int (nI p)), some (.int (nI q)), some (.int (nI n)), some (.int (nI r.length)), none, none, none, some (.int (nI (P + j))), some (.int (nI i)), some (.int (nI (n + (R.map zR).length))), some (.int (nI (P + z)))] [] s2 Q := by
        intro m'
        induction m' with
        | zero =>
          intro j s2 hj hA2
          have hj : j = z := hj
          subst hj
          refine vX10_cut_166 (pk_le (P + j) (P + j) (fun _ => hA2.rowOf hst (by rw [hlt]; omega) (by rw [List.length_map]; omega) (fun s3 q3 => ⟨rfl, ?_⟩)) (fun c => by omega) rfl rfl)
          rw [nI_1]
          refine ih (i + 1) s3 (R ++ [(a.drop P).take j]) (P + j) (by omega) (by rw [List.length_append, hRl]; rfl) hP1.symm hz' (by rw [zis_app, zis_cons, zis_nil, hlt, hRz]; rfl) (fun u hu => ?_) ?_
          · rcases List.mem_append.mp hu with hu | hu
            · exact hR6 u hu
            · rw [List.mem_singleton.mp hu, hlt]; omega
          · rw [hlt] at q3
            rw [List.map_append]
            have e : b + 2 * i + P + 2 + j = b + 2 * (i + 1) + (P + j) := by omega
            rw [e] at q3
            exact q3
        | succ m' ihj =>
          intro j s2 hj hA2
          refine vX10_cut_166 (pk_le (P + z) (P + j) (fun c => by omega) (fun _ => ?_) rfl rfl)
          refine hA2.pE hst hr (by omega) (show P + j < a.length by omega) (by rw [List.length_append, List.length_map, List.length_map, List.length_take]; omega) (fun s3 q3 => ?_)
          rw [nI_1]
          refine ihj (j + 1) s3 (by omega) ?_
          have e : zel (zR a) (P + j) = zI ((a.drop P).getD j 0) := by
            rw [show zel (zR a) (P + j) = zI (a.getD (P + j) 0) from getD_map zI a 0 (zI 0) (by omega)]
            rw [List.getD, List.getD, List.getElem?_drop]
          rw [e] at q3
          rw [take_succ_getD (a.drop P) 0 j (by rw [List.length_drop]; omega), List.map_append, ← List.append_assoc]
          exact q3
      exact inner z 0 s' (by omega) (by rw [List.take_zero, List.map_nil, List.append_nil]; exact hA)
  -- the lengths are looked through
  have h16 : ∀ m i (a5 : Int64) (a7 : Bool), i + m = r.length → a5.toInt = zsumI (r.take i) → (a7 = true ↔ ∃ v ∈ r.take i, v < 0) → ExM l E w (d + 4) MX10_cut 16 [some (.ref w.1), some (.int (nI p)), some (.int (nI q)), some (.int (nI n)), some (.int (nI r.length)), some (.long a5), none, some (.int (fl a7)), some (.int (nI i)), none, none, none] [] s Q := by
    intro m
    induction m with
    | zero =>
      intro i a5 a7 hi h5 h7
      have hi : i = r.length := hi
      rw [List.take_of_length_le (by omega)] at h5 h7
      refine vX10_cut_16 (pk_le r.length i (fun _ => pk_lt 20 r.length (fun k => ⟨fun k2 => absurd k2 ?_, fun _ => ?_⟩) (fun k => ?_) rfl rfl) (fun c => by omega) rfl rfl)
      · exact Int32.not_le.mpr (nI_lt k (by omega))
      · rw [if_pos k] at hQ
        exact K_tr hst hC ha0 (by omega) 2 rfl hQ
      · rw [if_neg (by omega)] at hQ
        have k20 : nI r.length ≤ 20 := nI_le (b := 20) k (by omega)
        cases a7 with
        | true =>
          rw [if_pos (h7.mp rfl)] at hQ
          refine ⟨fun _ => ⟨fun _ => ⟨fun c => absurd c (by decide), fun _ => K_tr hst hC ha0 (by omega) 1 rfl hQ⟩, fun c => absurd k20 c⟩, fun c => absurd c (by decide)⟩
        | false =>
          have hno : ¬ ∃ v ∈ r, v < 0 := fun z => by have := h7.mpr z; cases this
          rw [if_neg hno] at hQ
          refine ⟨fun c => absurd rfl c, fun _ => M_sizeA hst ha0 hr (by omega) ⟨_, rfl, ?_⟩⟩
          have e : lg_cmp a5 (nI a.length).toInt64 = 0 ↔ zsumI r = (a.length : Int) := by
            rw [lg_cmp_eq, ← Int64.toInt_inj, h5, i64_toInt, nI_toInt (by omega)]
          show (lg_cmp a5 (nI a.length).toInt64 = 0 → _) ∧ (¬ lg_cmp a5 (nI a.length).toInt64 = 0 → _)
          rw [e]
          refine ⟨fun c => ?_, fun c => ⟨fun _ => ⟨fun _ => ?_, fun c => absurd rfl c⟩, fun c => absurd k20 c⟩⟩
          · rw [if_neg (fun z => z c)] at hQ
            have hpos : ∀ v ∈ r, ¬ v < 0 := fun v hv z => hno ⟨v, hv, z⟩
            rw [zsumI_nat r hpos] at c
            exact h137 k hpos (by omega) hQ r.length 0 _ [] 0 (by omega) rfl rfl (by rw [List.drop_zero, List.drop_zero]; rfl) rfl (fun u hu => by cases hu) ha
          · rw [if_pos c] at hQ
            exact K_tr hst hC ha0 (by omega) 4 rfl hQ
    | succ m ih =>
      intro i a5 a7 hi h5 h7
      have hts := take_succ_getD r 0 i (by omega)
      obtain ⟨t1, t2⟩ := ha0.rowAt hq (show i < r.length by omega)
      have hbd := zsumI_bd (r.take i)
      rw [List.length_take] at hbd
      have hx := i32_rng (r.getD i 0)
      have h5' : (a5 + (r.getD i 0).toInt64).toInt = zsumI (r.take (i + 1)) := by
        rw [hts, zsumI_snoc]
        refine i64_add (by rw [h5, i64_toInt]) ?_ ?_
        · omega
        · omega
      have hex : (∃ v ∈ r.take (i + 1), v < 0) ↔ (a7 = true ∨ r.getD i 0 < 0) := by
        rw [hts, h7]
        constructor
        · rintro ⟨v, hv, c⟩
          rcases List.mem_append.mp hv with hv | hv
          · exact Or.inl ⟨v, hv, c⟩
          · rw [List.mem_singleton.mp hv] at c; exact Or.inr c
        · rintro (⟨v, hv, c⟩ | c)
          · exact ⟨v, List.mem_append_left _ hv, c⟩
          · exact ⟨_, List.mem_append_right _ (List.mem_singleton.mpr rfl), c⟩
      refine vX10_cut_16 (pk_le r.length i (fun c => by omega) (fun _ => ?_) rfl rfl)
      rw [nI_l2, nI_add, nI_clamp (by omega), t2, nI_1]
      refine ⟨inB_n (by omega), fun y12 e12 => ?_⟩
      rw [e12]
      cases a7 with
      | true => exact ⟨fun _ => ih (i + 1) _ true (by omega) h5' ⟨fun _ => hex.mpr (Or.inl rfl), fun _ => rfl⟩, fun c => absurd c (by decide)⟩
      | false =>
        refine ⟨fun c => absurd rfl c, fun _ => ⟨inB_n (by omega), fun c => ih (i + 1) _ false (by omega) h5' ⟨fun z => (by cases z), fun z => ?_⟩, fun c => ih (i + 1) _ true (by omega) h5' ⟨fun _ => hex.mpr (Or.inr (Int32.not_le.mp c)), fun _ => rfl⟩⟩⟩
        rcases hex.mp z with z | z
        · exact z
        · exact absurd z (Int32.not_lt.mpr c)
  refine eX10_cut hst (M_sizeA hst ha0 hq (by omega) ⟨_, rfl, ?_⟩)
  exact h16 r.length 0 0 false (by omega) rfl ⟨fun z => (by cases z), fun ⟨v, hv, _⟩ => by cases hv⟩
end MC
