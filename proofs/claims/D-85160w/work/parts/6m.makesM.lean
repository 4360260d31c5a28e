/-! THE MODEL: row, iota, pack, grid, rows -/
theorem i32_le {x : Int32} {n : Nat} (h : n < 2 ^ 31) : x ≤ nI n ↔ x.toInt ≤ n := by rw [Int32.le_iff_toInt_le, nI_toInt h]
theorem i32_lt {x : Int32} {n : Nat} (h : n < 2 ^ 31) : nI n < x ↔ (n : Int) < x.toInt := by rw [Int32.lt_iff_toInt_lt, nI_toInt h]
theorem i32_neg {x : Int32} : x < 0 ↔ x.toInt < 0 := by rw [Int32.lt_iff_toInt_lt]; exact Iff.rfl
theorem i32_nat {x : Int32} (h : ¬ x < 0) : (x.toNatClampNeg : Int) = x.toInt ∧ x = nI x.toNatClampNeg := by
  obtain ⟨j, hj, rfl⟩ := nI_of h
  rw [nI_clamp hj, nI_toInt hj]
  exact ⟨rfl, rfl⟩
theorem range_map_take (n i : Nat) (h : i ≤ n) : ((List.range n).map nI).take i = (List.range i).map nI := by
  rw [← List.map_take, List.take_range, Nat.min_eq_left h]
theorem b_219 {a5 a6 : Int32} {T1 T2 C : Prop} (g : Bool) (h2 : g = true → T2) (h1 : g = false → a5 < 0 → T1) (h0 : g = false → ¬ a5 < 0 → C) (e6 : a6 = fl g) : ((¬ a6 = 0 → ((a6 = 0 → T1) ∧ (¬ a6 = 0 → T2))) ∧ (a6 = 0 → ((0 ≤ a5 → C) ∧ (¬ 0 ≤ a5 → ((a6 = 0 → T1) ∧ (¬ a6 = 0 → T2)))))) := by
  subst e6
  cases g with
  | true => exact ⟨fun _ => ⟨fun c => absurd c (by decide), fun _ => h2 rfl⟩, fun c => absurd c (by decide)⟩
  | false => exact ⟨fun c => absurd rfl c, fun _ => ⟨fun c => h0 rfl (Int32.not_lt.mpr c), fun c => ⟨fun _ => h1 rfl (Int32.not_le.mp c), fun c => absurd rfl c⟩⟩⟩
section MM
variable {l : Launch} {E : EN} {w : MO} {d : Nat} {s s0 : MS} {Q : Option Value → MS → Prop} {b n md b1 : Nat}
theorem M_makes0 (hst : l.stackTraces = false) {x : Th} {k : Nat} {y : Int32} (hi : MOk b n md [x] s) (hx0 : zk x = 0) (hk : k < 3) (hQ : ∀ s', mop b n md (zbi1 k x) s s' → Q none s') : EvM l E w (d + 4) MX10_makes [.ref w.1, .int (nI k), .int (zv x), .int y, .int (nI n)] s Q := by
  have ha := hi.acc
  have ha0 := hi.acc0
  have hC := hi.ctx
  have hn := hC.2.1
  generalize hv : zv x = v
  obtain ⟨g, hg⟩ : ∃ g : Bool, g = decide ((if k = 2 then (20 : Int) else 64) < v.toInt) := ⟨_, rfl⟩
  have heq : zbi1 k x = if g = true then .inl 2 else if v < 0 then .inl 1 else if k = 0 then .inr (zR (List.replicate v.toNatClampNeg 0)) else if k = 1 then .inr (zR ((List.range v.toNatClampNeg).map nI)) else .inr (zP (List.replicate v.toNatClampNeg (zI 0))) := by
    rw [hg]
    have : k = 0 ∨ k = 1 ∨ k = 2 := by omega
    rcases this with rfl | rfl | rfl
    · rw [zbi1_0, if_neg (fun c => c hx0), hv]; simp
    · rw [zbi1_1, if_neg (fun c => c hx0), hv]; simp
    · rw [zbi1_2, if_neg (fun c => c hx0), hv]; simp
  rw [heq] at hQ
  have nk3 : ¬ nI k = 3 := by
    have : k = 0 ∨ k = 1 ∨ k = 2 := by omega
    rcases this with rfl | rfl | rfl <;> decide
  have nk4 : ¬ nI k = 4 := by
    have : k = 0 ∨ k = 1 ∨ k = 2 := by omega
    rcases this with rfl | rfl | rfl <;> decide
  have nk33 : ¬ (3 : Int32) ≤ nI k := by
    have : k = 0 ∨ k = 1 ∨ k = 2 := by omega
    rcases this with rfl | rfl | rfl <;> decide
  have go : ExM l E w (d + 4) MX10_makes 24 [some (.ref w.1), some (.int (nI k)), some (.int v), some (.int y), some (.int (nI n)), some (.int v), none, none, none, none] [.int (fl g)] s Q := by
    refine vX10_makes_24 ⟨fun _ => vX10_makes_81 ⟨fun _ => vX10_makes_219 (b_219 g (fun c => ?_) (fun c c2 => ?_) (fun c c2 => ?_) rfl), fun c => absurd c nk4⟩, fun c => absurd c nk3⟩
    · rw [if_pos c] at hQ
      exact K_tr hst hC ha0 (by omega) 2 rfl hQ
    · rw [if_neg (by rw [c]; decide), if_pos c2] at hQ
      exact K_tr hst hC ha0 (by omega) 1 rfl hQ
    · rw [if_neg (by rw [c]; decide), if_neg c2] at hQ
      obtain ⟨v1, v2⟩ := i32_nat c2
      have v64 : v.toNatClampNeg ≤ (if k = 2 then 20 else 64) := by
        rw [c] at hg
        have := of_decide_eq_false hg.symm
        split at this <;> split <;> omega
      generalize v.toNatClampNeg = z at v1 v2 v64 hQ
      subst v2
      refine ⟨fun c => absurd c nk33, fun _ => ?_⟩
      obtain ⟨W, hW⟩ : ∃ W : List Int32, W = if k = 1 then (List.range z).map nI else List.replicate z 0 := ⟨_, rfl⟩
      have hWl : W.length = z := by rw [hW]; split <;> simp
      have hz64 : z ≤ 64 := by split at v64 <;> omega
      have main : ∀ m i (s' : MS), i + m = z → MAcc b n s b ((W.take i).map zI) s' → ExM l E w (d + 4) MX10_makes 262 [some (.ref w.1), some (.int (nI k)), some (.int (nI z)), none, some (.int (nI n)), none, none, some (.int (nI i)), none, none] [] s' Q := by
        intro m
        induction m with
        | zero =>
          intro i s' hi hA
          have hi : i = z := hi
          rw [List.take_of_length_le (by omega)] at hA
          refine vX10_makes_262 (pk_le z i (fun _ => ?_) (fun c => by omega) rfl rfl)
          have : k = 0 ∨ k = 1 ∨ k = 2 := by omega
          rcases this with rfl | rfl | rfl
          · have hW : W = List.replicate z 0 := hW
            subst hW
            refine ⟨fun _ => K_row hst hC hA (fun s2 q => hQ s2 ?_), fun c => absurd c (by decide)⟩
            rw [zmk_ok (show ZW (zR (List.replicate z 0)) by show (List.replicate z (0 : Int32)).length ≤ 64; omega)] at q
            exact q
          · have hW : W = (List.range z).map nI := hW
            subst hW
            refine ⟨fun _ => K_row hst hC hA (fun s2 q => hQ s2 ?_), fun c => absurd c (by decide)⟩
            rw [zmk_ok (show ZW (zR ((List.range z).map nI)) by show ((List.range z).map nI).length ≤ 64; omega)] at q
            exact q
          · have hW : W = List.replicate z 0 := hW
            subst hW
            have hz20 : z ≤ 20 := v64
            rw [List.map_replicate] at hA
            refine ⟨fun c => absurd rfl c, fun _ => K_bm hst hC (k := 3) hA (Or.inr (Or.inr rfl)) (fun c => absurd c (by decide)) (fun c => absurd c (by decide)) (fun v hv => ?_) (fun s2 q => hQ s2 ?_)⟩
            · rw [(List.mem_replicate.mp hv).2]; exact trivial
            · have hw : ZW (zP (List.replicate z (zI 0))) := by
                refine zw_pack.mpr ⟨by rw [List.length_replicate]; exact hz20, ?_, ?_, fun x hx => by rw [(List.mem_replicate.mp hx).2]; exact trivial⟩
                · rw [List.map_replicate, List.sum_replicate_nat]
                  show z * 1 + 1 ≤ 600; omega
                · have : ∀ z : Nat, zd (zsp (List.replicate z (zI 0))) = 0 := by
                    intro z
                    induction z with
                    | zero => rfl
                    | succ z ih => rw [List.replicate_succ, zd_cons, ih]; rfl
                  rw [this]; decide
              have q : mop b n md (zmk (zP (List.replicate z (zI 0)))) s s2 := q
              rw [zmk_ok hw] at q
              exact q
        | succ m ih =>
          intro i s' hi hA
          have hl : ((W.take i).map zI).length = i := by rw [List.length_map, List.length_take]; omega
          have hWi : W.getD i 0 = if k = 1 then nI i else 0 := by
            rw [hW]
            split
            · rw [getD_map nI _ 0 0 (by rw [List.length_range]; omega), getD_lt 0 (by rw [List.length_range]; omega), List.getElem_range]
            · exact getD_rep z 0 0 (by omega)
          have nx : ∀ s2 : MS, MAcc b n s b ((W.take i).map zI ++ [zI (W.getD i 0)]) s2 → ExM l E w (d + 4) MX10_makes 262 [some (.ref w.1), some (.int (nI k)), some (.int (nI z)), none, some (.int (nI n)), none, none, some (.int (nI i + 1)), none, none] [] s2 Q := by
            intro s2 q
            rw [nI_1]
            refine ih (i + 1) s2 (by omega) ?_
            rw [take_succ_getD W 0 i (by omega), List.map_append]
            exact q
          refine vX10_makes_262 (pk_le z i (fun c => by omega) (fun _ => ?_) rfl rfl)
          refine bn_eq k 1 (fun c => hA.pI hst (by omega) (fun s2 q => nx s2 ?_)) (fun c => hA.pI hst (by omega) (fun s2 q => nx s2 ?_)) rfl rfl
          · rw [hWi, if_neg c]; exact q
          · rw [hWi, if_pos c]; exact q
      exact main z 0 _ (by omega) ha
  refine eX10_makes hst ?_
  refine pk_le 2 k (fun c => ?_) (fun c => ?_) rfl rfl
  · have k2 : k = 2 := by omega
    rw [if_pos k2] at hg
    refine ⟨fun c2 => ?_, fun c2 => ?_⟩
    · have : g = false := by rw [hg]; exact decide_eq_false (by have := (i32_le (n := 20) (by omega)).mp c2; omega)
      rw [this] at go; exact go
    · have : g = true := by rw [hg]; exact decide_eq_true (by have h := mt (i32_le (n := 20) (by omega)).mpr c2; omega)
      rw [this] at go; exact go
  · have k2 : ¬ k = 2 := by omega
    rw [if_neg k2] at hg
    refine ⟨fun c2 => ?_, fun c2 => ?_⟩
    · have : g = false := by rw [hg]; exact decide_eq_false (by have := (i32_le (n := 64) (by omega)).mp c2; omega)
      rw [this] at go; exact go
    · have : g = true := by rw [hg]; exact decide_eq_true (by have h := mt (i32_le (n := 64) (by omega)).mpr c2; omega)
      rw [this] at go; exact go
/-- rows of noughts, one behind the other -/
theorem M_mk326 (hst : l.stackTraces = false) (hC : MCtx b n md s0) {k R : Nat} {a2 a3 : Int32} {Z : List Nat} (hZ : Z.length = R) (hR : R ≤ 20) (hZ6 : ∀ z ∈ Z, z ≤ 64) (hZs : Z.sum ≤ 200) (hk : k = 3 ∨ k = 4)
    (h3 : k = 3 → ∀ z ∈ Z, a3 = nI z) (h4 : k = 4 → ∃ p, a2 = nI p ∧ rmT (s0.2.2.1 104) b true (zR (Z.map nI)) p 0) (hQ : ∀ s', mop b n md (.inr (zT (Z.map (fun z => List.replicate z 0)))) s0 s' → Q none s') :
    ∀ m i (s : MS), i + m = R → MAcc b n s0 (b + 2 * i + (Z.take i).sum) (((Z.take i).map (fun z => List.replicate z (0 : Int32))).map zR) s → ExM l E w (d + 4) MX10_makes 326 [some (.ref w.1), some (.int (nI k)), some (.int a2), some (.int a3), some (.int (nI n)), none, none, some (.int (nI R)), some (.int (nI i)), none] [] s Q := by
  have hb := hC.1
  have hn := hC.2.1
  have hzs : ∀ Y : List Nat, zis (Y.map (fun z => List.replicate z (0 : Int32))) = Y.sum := by
    intro Y
    unfold zis
    rw [List.map_map]
    congr 1
    exact (List.map_congr_left (fun z _ => List.length_replicate)).trans (List.map_id Y)
  have hst' : ∀ i, (Z.take i).sum ≤ Z.sum := by
    intro i
    have := List.take_append_drop i Z
    have h2 : Z.sum = (Z.take i).sum + (Z.drop i).sum := by rw [← List.sum_append, this]
    omega
  intro m
  induction m with
  | zero =>
    intro i s hi hA
    have hi : i = R := hi
    have := hst' i
    rw [List.take_of_length_le (by omega)] at hA
    have hw : ZW (zT (Z.map (fun z => List.replicate z (0 : Int32)))) := by
      refine ⟨by rw [List.length_map]; omega, by rw [hzs]; exact hZs, fun r hr => ?_⟩
      obtain ⟨z, hz, rfl⟩ := List.mem_map.mp hr
      rw [List.length_replicate]; exact hZ6 z hz
    refine vX10_makes_326 (pk_le R i (fun _ => K_tab hst hC hA hw.2.2 (by rw [hzs, List.length_map]; omega) (by omega) (fun s' q => hQ s' ?_)) (fun c => by omega) rfl rfl)
    rw [zmk_ok hw] at q
    exact q
  | succ m ih =>
    intro i s hi hA
    have h1 := hst' i
    have hts := take_succ_getD Z 0 i (by omega)
    have hza : (Z.take (i + 1)).sum = (Z.take i).sum + Z.getD i 0 := by rw [hts, List.sum_append]; simp
    have h2 := hst' (i + 1)
    have hmem := getD_mem 0 (show i < Z.length by omega)
    have hz6 := hZ6 _ hmem
    have hl : (((Z.take i).map (fun z => List.replicate z (0 : Int32))).map zR).length = i := by rw [List.length_map, List.length_map, List.length_take]; omega
    refine vX10_makes_326 (pk_le R i (fun c => by omega) (fun _ y2 e2 => ?_) rfl rfl)
    rw [hA.sp] at e2
    subst e2
    have go : EvM l E w (d + 3) MX10_zeros [.ref w.1, .int (nI (Z.getD i 0))] s (fun r s3 => r = none ∧ (EvM l E w (d + 3) MX10_rowOf [.ref w.1, .int (nI (n + (((Z.take i).map (fun z => List.replicate z (0 : Int32))).map zR).length))] s3 (fun r s4 => r = none ∧ ExM l E w (d + 4) MX10_makes 326 [some (.ref w.1), some (.int (nI k)), some (.int a2), some (.int a3), some (.int (nI n)), none, none, some (.int (nI R)), some (.int (nI i + 1)), none] [] s4 Q))) := by
      refine M_zeros hst hA (by omega) (fun s1 q1 => ⟨rfl, q1.rowOf hst (by rw [List.length_replicate]; omega) (by omega) (fun s3 q3 => ⟨rfl, ?_⟩)⟩)
      rw [nI_1]
      refine ih (i + 1) s3 (by omega) ?_
      rw [List.length_replicate] at q3
      rw [hza, hts, List.map_append, List.map_append]
      have e : b + 2 * i + (Z.take i).sum + 2 + Z.getD i 0 = b + 2 * (i + 1) + ((Z.take i).sum + Z.getD i 0) := by omega
      rw [e] at q3
      exact q3
    rcases hk with rfl | rfl
    · refine ⟨fun c => absurd rfl c, fun _ => ?_⟩
      have e3 := h3 rfl _ hmem
      generalize Z.getD i 0 = z at e3 go
      subst e3
      exact go
    · refine ⟨fun _ => ?_, fun c => absurd c (by decide)⟩
      obtain ⟨p, rfl, hr⟩ := h4 rfl
      obtain ⟨r1, r2⟩ := hA.rowAt hr (show i < (Z.map nI).length by rw [List.length_map]; omega)
      rw [nI_l2, nI_add, nI_clamp (by omega), r2, getD_map nI Z 0 0 (by omega)]
      exact ⟨inB_n (by omega), go⟩
theorem M_makes3 (hst : l.stackTraces = false) {x y : Th} (hi : MOk b n md [x, y] s) (hx0 : zk x = 0) (hy0 : zk y = 0) (hQ : ∀ s', mop b n md (zbi2 3 x y) s s' → Q none s') : EvM l E w (d + 4) MX10_makes [.ref w.1, .int 3, .int (zv x), .int (zv y), .int (nI n)] s Q := by
  have ha := hi.acc
  have ha0 := hi.acc0
  have hC := hi.ctx
  have hn := hC.2.1
  rw [zbi2_3, if_neg (fun c => c.elim (fun z => z hx0) (fun z => z hy0))] at hQ
  generalize zv x = v at hQ
  generalize zv y = u at hQ
  have go : ∀ (g : Bool) (a5 : Int32), (g = true ↔ (20 < v.toInt ∨ 64 < u.toInt ∨ (0 ≤ v.toInt ∧ 0 ≤ u.toInt ∧ 200 < v.toInt * u.toInt))) → (a5 < 0 ↔ (v < 0 ∨ u < 0)) → ExM l E w (d + 4) MX10_makes 81 [some (.ref w.1), some (.int 3), some (.int v), some (.int u), some (.int (nI n)), some (.int a5), some (.int (fl g)), none, none, none] [] s Q := by
    intro g a5 hg h5
    refine vX10_makes_81 ⟨fun _ => vX10_makes_219 (b_219 g (fun c => ?_) (fun c c2 => ?_) (fun c c2 => ?_) rfl), fun c => absurd c (by decide)⟩
    · rw [if_pos (hg.mp c)] at hQ
      exact K_tr hst hC ha0 (by omega) 2 rfl hQ
    · rw [if_neg (fun z => by rw [hg.mpr z] at c; cases c), if_pos (h5.mp c2)] at hQ
      exact K_tr hst hC ha0 (by omega) 1 rfl hQ
    · have ng : ¬ (20 < v.toInt ∨ 64 < u.toInt ∨ (0 ≤ v.toInt ∧ 0 ≤ u.toInt ∧ 200 < v.toInt * u.toInt)) := fun z => by rw [hg.mpr z] at c; cases c
      have n5 : ¬ (v < 0 ∨ u < 0) := fun z => c2 (h5.mpr z)
      rw [if_neg ng, if_neg n5] at hQ
      obtain ⟨v1, v2⟩ := i32_nat (fun z => n5 (Or.inl z))
      obtain ⟨u1, u2⟩ := i32_nat (fun z => n5 (Or.inr z))
      generalize v.toNatClampNeg = p at v1 v2 hQ
      generalize u.toNatClampNeg = q at u1 u2 hQ
      have hp20 : p ≤ 20 := by omega
      have hq64 : q ≤ 64 := by omega
      have hpq : p * q ≤ 200 := by
        have h : ¬ 200 < v.toInt * u.toInt := fun z => ng (Or.inr (Or.inr ⟨by omega, by omega, z⟩))
        rw [← v1, ← u1] at h
        have : ((p * q : Nat) : Int) = (p : Int) * (q : Int) := Int.natCast_mul p q
        omega
      subst v2 u2
      refine ⟨fun _ => ⟨fun c => absurd rfl c, fun _ => ?_⟩, fun c => absurd (by decide) c⟩
      refine M_mk326 hst hC (k := 3) (Z := List.replicate p q) (R := p) (by rw [List.length_replicate]) hp20 (fun z hz => by rw [(List.mem_replicate.mp hz).2]; exact hq64) (by rw [List.sum_replicate_nat]; exact hpq) (Or.inl rfl) (fun _ z hz => by rw [(List.mem_replicate.mp hz).2]) (fun c => absurd c (by decide)) (fun s' q => hQ s' ?_) p 0 _ (by omega) ha
      rw [List.map_replicate] at q
      exact q
  have mn : ∀ g : Bool, (g = true ↔ (20 < v.toInt ∨ 64 < u.toInt ∨ (0 ≤ v.toInt ∧ 0 ≤ u.toInt ∧ 200 < v.toInt * u.toInt))) → ((u ≤ v → ExM l E w (d + 4) MX10_makes 81 [some (.ref w.1), some (.int 3), some (.int v), some (.int u), some (.int (nI n)), some (.int u), some (.int (fl g)), none, none, none] [] s Q) ∧ (¬ u ≤ v → ExM l E w (d + 4) MX10_makes 81 [some (.ref w.1), some (.int 3), some (.int v), some (.int u), some (.int (nI n)), some (.int v), some (.int (fl g)), none, none, none] [] s Q)) := by
    intro g hg
    refine ⟨fun c => go g u hg ?_, fun c => go g v hg ?_⟩
    · rw [Int32.le_iff_toInt_le] at c
      rw [i32_neg, i32_neg]; omega
    · rw [Int32.le_iff_toInt_le] at c
      rw [i32_neg, i32_neg]; omega
  have h24 : ∀ g0 : Bool, (g0 = true ↔ 20 < v.toInt) → ExM l E w (d + 4) MX10_makes 24 [some (.ref w.1), some (.int 3), some (.int v), some (.int u), some (.int (nI n)), some (.int v), none, none, none, none] [.int (fl g0)] s Q := by
    intro g0 hg0
    refine vX10_makes_24 ⟨fun c => absurd rfl c, fun _ => ?_⟩
    cases g0 with
    | true => exact ⟨fun _ => mn true ⟨fun _ => Or.inl (hg0.mp rfl), fun _ => rfl⟩, fun c => absurd c (by decide)⟩
    | false =>
      have n20 : ¬ 20 < v.toInt := fun z => by have := hg0.mpr z; cases this
      refine ⟨fun c => absurd rfl c, fun _ => ⟨fun c => ?_, fun c => ?_⟩⟩
      · have c := (i32_lt (n := 64) (by omega)).mp c
        exact mn true ⟨fun _ => Or.inr (Or.inl c), fun _ => rfl⟩
      · have n64 : ¬ 64 < u.toInt := fun z => c ((i32_lt (n := 64) (by omega)).mpr z)
        refine ⟨fun cv => mn false ⟨fun z => (by cases z), fun z => ?_⟩, fun cv => ⟨fun cu => mn false ⟨fun z => (by cases z), fun z => ?_⟩, fun cu => ?_⟩⟩
        · rw [i32_neg] at cv
          omega
        · rw [i32_neg] at cu
          omega
        · obtain ⟨v1, v2⟩ := i32_nat cv
          obtain ⟨u1, u2⟩ := i32_nat cu
          have hpq : ((v.toNatClampNeg * u.toNatClampNeg : Nat) : Int) = v.toInt * u.toInt := by rw [Int.natCast_mul, v1, u1]
          have hlt : v.toNatClampNeg * u.toNatClampNeg ≤ 20 * 64 := Nat.mul_le_mul (by omega) (by omega)
          have e : lg_cmp (v.toInt64 * u.toInt64) 200 ≤ 0 ↔ v.toNatClampNeg * u.toNatClampNeg ≤ 200 := by
            rw [lg_cmp_le]
            conv => lhs; lhs; rw [v2, u2]
            rw [nI_l (by omega), nI_l (by omega), lN_mul]
            exact lN_le (a := _) (b := 200) (by omega) (by omega)
          rw [e]
          refine ⟨fun cc => mn false ⟨fun z => (by cases z), fun z => ?_⟩, fun cc => mn true ⟨fun _ => Or.inr (Or.inr ⟨by omega, by omega, by omega⟩), fun _ => rfl⟩⟩
          omega
  refine eX10_makes hst ⟨fun _ => ⟨fun c => h24 false ⟨fun z => (by cases z), fun z => ?_⟩, fun c => h24 true ⟨fun _ => ?_, fun _ => rfl⟩⟩, fun c => absurd (by decide) c⟩
  · have := (i32_le (n := 20) (by omega)).mp c
    omega
  · have := mt (i32_le (n := 20) (by omega)).mpr c
    omega
end MM
