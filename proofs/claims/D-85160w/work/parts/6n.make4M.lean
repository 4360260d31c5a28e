section MM4
variable {l : Launch} {E : EN} {w : MO} {d : Nat} {s s0 : MS} {Q : Option Value → MS → Prop} {b n md b1 : Nat}
theorem M_makes4 (hst : l.stackTraces = false) {x : Th} {v y : Int32} (hi : MOk b n md [x] s) (hv : v = s.2.2.1 107 n) (hx1 : zk x = 1) (hQ : ∀ s', mop b n md (zbi1 4 x) s s' → Q none s') : EvM l E w (d + 4) MX10_makes [.ref w.1, .int 4, .int v, .int y, .int (nI n)] s Q := by
  have ha := hi.acc
  have ha0 := hi.acc0
  have hC := hi.ctx
  have hn := hC.2.1
  obtain ⟨m4, hx, wx⟩ := hi.one
  rw [← hv] at hx
  obtain ⟨-, p, rfl, hr⟩ := hx.thing (by omega)
  rw [zbi1_4, if_neg (fun c => c hx1)] at hQ
  have ex := zk1 hx1
  rw [ex] at hr wx
  generalize zr x = a at hr wx hQ
  have wa : a.length ≤ 64 := wx
  have h219 : ∀ (g : Bool) (a5 : Int32), (g = true ↔ (20 < a.length ∨ (∃ v ∈ a, 64 < v.toInt) ∨ 200 < (a.map Int32.toNatClampNeg).sum)) → (g = false → (a5 < 0 ↔ ∃ v ∈ a, v < 0)) → ExM l E w (d + 4) MX10_makes 219 [some (.ref w.1), some (.int 4), some (.int (nI p)), some (.int y), some (.int (nI n)), some (.int a5), some (.int (fl g)), none, none, none] [] s Q := by
    intro g a5 hg h5
    refine vX10_makes_219 (b_219 g (fun c => ?_) (fun c c2 => ?_) (fun c c2 => ?_) rfl)
    · rw [if_pos (hg.mp c)] at hQ
      exact K_tr hst hC ha0 (by omega) 2 rfl hQ
    · rw [if_neg (fun z => by rw [hg.mpr z] at c; cases c), if_pos ((h5 c).mp c2)] at hQ
      exact K_tr hst hC ha0 (by omega) 1 rfl hQ
    · have ng : ¬ (20 < a.length ∨ (∃ v ∈ a, 64 < v.toInt) ∨ 200 < (a.map Int32.toNatClampNeg).sum) := fun z => by rw [hg.mpr z] at c; cases c
      have n5 : ¬ ∃ v ∈ a, v < 0 := fun z => c2 ((h5 c).mpr z)
      rw [if_neg ng, if_neg n5] at hQ
      refine ⟨fun _ => ⟨fun _ => M_sizeA hst ha hr (by have := hC.1; omega) ⟨_, rfl, ?_⟩, fun c => absurd c (by decide)⟩, fun c => absurd (by decide) c⟩
      have hpos : ∀ v ∈ a, ¬ v < 0 := fun v hv z => n5 ⟨v, hv, z⟩
      have e1 : (a.map Int32.toNatClampNeg).map nI = a := by
        rw [List.map_map]
        exact (List.map_congr_left (fun v hv => (i32_nat (hpos v hv)).2.symm)).trans (List.map_id a)
      have e2 : (a.map Int32.toNatClampNeg).map (fun z => List.replicate z (0 : Int32)) = a.map (fun v => List.replicate v.toNatClampNeg 0) := by rw [List.map_map]; rfl
      refine M_mk326 hst hC (k := 4) (Z := a.map Int32.toNatClampNeg) (R := a.length) (by rw [List.length_map]) (by omega) (fun z hz => ?_) (by omega) (Or.inr rfl) (fun c => absurd c (by decide)) (fun _ => ⟨p, rfl, by rw [e1]; exact hr⟩) (fun s' q => hQ s' ?_) a.length 0 _ (by omega) ha
      · obtain ⟨v, hv, rfl⟩ := List.mem_map.mp hz
        have h1 := (i32_nat (hpos v hv)).1
        have h2 : ¬ 64 < v.toInt := fun z => ng (Or.inr (Or.inl ⟨v, hv, z⟩))
        omega
      · rw [e2] at q; exact q
  have h1 : ∀ (a5 a7 a8 : Int32), (20 < a.length ∨ (∃ v ∈ a, 64 < v.toInt) ∨ 200 < (a.map Int32.toNatClampNeg).sum) → ExM l E w (d + 4) MX10_makes 112 [some (.ref w.1), some (.int 4), some (.int (nI p)), some (.int y), some (.int (nI n)), some (.int a5), some (.int 1), some (.int a7), some (.int a8), none] [] s Q := by
    intro a5 a7 a8 hg
    have go := h219 true a5 ⟨fun _ => hg, fun _ => rfl⟩ (fun c => by cases c)
    exact vX10_makes_112 (M_sizeA hst ha0 hr (by have := hC.1; omega) ⟨_, rfl, fun _ => ⟨fun _ => go, fun c => absurd c (by decide)⟩, fun _ => ⟨fun _ => ⟨fun _ => go, fun c => absurd c (by decide)⟩, fun c => absurd c (by decide)⟩⟩)
  have hsum : ∀ i, (∀ v ∈ a.take i, v.toInt ≤ 64) → ((a.take i).map Int32.toNatClampNeg).sum ≤ 64 * i := by
    intro i h
    have : ∀ l : List Int32, (∀ v ∈ l, v.toInt ≤ 64) → (l.map Int32.toNatClampNeg).sum ≤ 64 * l.length := by
      intro l
      induction l with
      | nil => intro _; exact Nat.le_refl 0
      | cons z r ih =>
        intro h
        rw [List.map_cons, List.sum_cons, List.length_cons]
        have h1 := h z List.mem_cons_self
        have h2 := ih fun v hv => h v (List.mem_cons_of_mem _ hv)
        have h3 : z.toNatClampNeg ≤ 64 := by
          by_cases c : z < 0
          · have : z.toNatClampNeg = 0 := by
              rw [i32_neg] at c
              show z.toInt.toNat = 0; omega
            omega
          · have := (i32_nat c).1; omega
        omega
    have := this _ h
    rw [List.length_take] at this
    omega
  have h0 : a.length ≤ 20 → ∀ m i (a5 : Int32), i + m = a.length → (∀ v ∈ a.take i, v.toInt ≤ 64) → a5 ≤ 0 → (a5 < 0 ↔ ∃ v ∈ a.take i, v < 0) → ExM l E w (d + 4) MX10_makes 112 [some (.ref w.1), some (.int 4), some (.int (nI p)), some (.int y), some (.int (nI n)), some (.int a5), some (.int 0), some (.int (nI ((a.take i).map Int32.toNatClampNeg).sum)), some (.int (nI i)), none] [] s Q := by
    intro h20 m
    induction m with
    | zero =>
      intro i a5 hi hall h50 h5
      have hi : i = a.length := hi
      have hs := hsum i hall
      rw [List.take_of_length_le (by omega)] at hall h5 hs ⊢
      refine vX10_makes_112 (M_sizeA hst ha0 hr (by have := hC.1; omega) ⟨_, rfl, pk_le a.length i (fun _ => ⟨fun c => absurd rfl c, fun _ => ?_⟩) (fun c => by omega) rfl rfl⟩)
      refine pk_le (a.map Int32.toNatClampNeg).sum 200 (fun c => h219 false a5 ⟨fun z => (by cases z), fun z => ?_⟩ (fun _ => h5)) (fun c => h219 true a5 ⟨fun _ => Or.inr (Or.inr c), fun _ => rfl⟩ (fun z => by cases z)) rfl rfl
      rcases z with z | ⟨v, hv, z⟩ | z
      · omega
      · have := hall v hv; omega
      · omega
    | succ m ih =>
      intro i a5 hi hall h50 h5
      have hs := hsum i hall
      have hts := take_succ_getD a 0 i (by omega)
      have hmem := getD_mem (0 : Int32) (show i < a.length by omega)
      obtain ⟨r1, r2⟩ := ha0.rowAt hr (show i < a.length by omega)
      refine vX10_makes_112 (M_sizeA hst ha0 hr (by have := hC.1; omega) ⟨_, rfl, pk_le a.length i (fun c => by omega) (fun _ => ⟨fun c => absurd rfl c, fun _ => ?_⟩) rfl rfl⟩)
      rw [nI_l2, nI_add, nI_clamp (by have := hC.1; omega), r2, nI_1]
      refine ⟨inB_n (by have := hC.1; omega), fun z ez => ?_⟩
      rw [← ez] at hts hmem
      have mn : z.toInt ≤ 64 → ∀ y' : Int32, y' = nI ((a.take (i + 1)).map Int32.toNatClampNeg).sum → ((a5 ≤ z → ExM l E w (d + 4) MX10_makes 112 [some (.ref w.1), some (.int 4), some (.int (nI p)), some (.int y), some (.int (nI n)), some (.int a5), some (.int 0), some (.int y'), some (.int (nI (i + 1))), none] [] s Q) ∧ (¬ a5 ≤ z → ExM l E w (d + 4) MX10_makes 112 [some (.ref w.1), some (.int 4), some (.int (nI p)), some (.int y), some (.int (nI n)), some (.int z), some (.int 0), some (.int y'), some (.int (nI (i + 1))), none] [] s Q)) := by
        intro hz y' ey'
        subst ey'
        have hall' : ∀ v ∈ a.take (i + 1), v.toInt ≤ 64 := by
          intro v hv
          rw [hts] at hv
          rcases List.mem_append.mp hv with hv | hv
          · exact hall v hv
          · rw [List.mem_singleton.mp hv]; exact hz
        have hex : (∃ v ∈ a.take (i + 1), v < 0) ↔ (a5 < 0 ∨ z < 0) := by
          rw [hts, h5]
          constructor
          · rintro ⟨v, hv, c⟩
            rcases List.mem_append.mp hv with hv | hv
            · exact Or.inl ⟨v, hv, c⟩
            · rw [List.mem_singleton.mp hv] at c; exact Or.inr c
          · rintro (⟨v, hv, c⟩ | c)
            · exact ⟨v, List.mem_append_left _ hv, c⟩
            · exact ⟨z, List.mem_append_right _ (List.mem_singleton.mpr rfl), c⟩
        rw [Int32.le_iff_toInt_le] at h50
        have h50 : a5.toInt ≤ 0 := h50
        refine ⟨fun c => ih (i + 1) a5 (by omega) hall' (Int32.le_iff_toInt_le.mpr h50) ?_, fun c => ih (i + 1) z (by omega) hall' ?_ ?_⟩
        · rw [hex]
          rw [Int32.le_iff_toInt_le] at c
          rw [i32_neg, i32_neg]; omega
        · rw [Int32.le_iff_toInt_le] at c
          exact Int32.le_iff_toInt_le.mpr (show z.toInt ≤ 0 by omega)
        · rw [hex]
          rw [Int32.le_iff_toInt_le] at c
          rw [i32_neg, i32_neg]; omega
      have hsnoc : ((a.take (i + 1)).map Int32.toNatClampNeg).sum = ((a.take i).map Int32.toNatClampNeg).sum + z.toNatClampNeg := by
        rw [hts, List.map_append, List.sum_append]; simp
      have bad : 64 < z.toInt → ∀ a5 a7 a8 : Int32, ExM l E w (d + 4) MX10_makes 112 [some (.ref w.1), some (.int 4), some (.int (nI p)), some (.int y), some (.int (nI n)), some (.int a5), some (.int 1), some (.int a7), some (.int a8), none] [] s Q := fun hz a5 a7 a8 => h1 a5 a7 a8 (Or.inr (Or.inl ⟨z, hmem, hz⟩))
      refine ⟨fun c => ?_, fun c => ?_⟩
      · have hz := (i32_le (n := 64) (by omega)).mp c
        refine ⟨fun c2 y' ey' => mn hz y' ?_, fun c2 => ⟨fun c3 => absurd c (Int32.not_le.mpr c3), fun c3 y' ey' => mn hz y' ?_⟩⟩
        · have h0 : z.toInt ≤ 0 := by rw [Int32.le_iff_toInt_le] at c2; exact c2
          have : z.toNatClampNeg = 0 := by show z.toInt.toNat = 0; omega
          rw [ey', hsnoc, this]
          exact nI_add _ 0
        · have hz0 : ¬ z < 0 := fun q => c2 (Int32.le_iff_toInt_le.mpr (by rw [i32_neg] at q; show z.toInt ≤ 0; omega))
          rw [ey', hsnoc]
          conv => lhs; rhs; rw [(i32_nat hz0).2]
          exact nI_add _ _
      · have hz := mt (i32_le (n := 64) (by omega)).mpr c
        have hz : 64 < z.toInt := by omega
        exact ⟨fun _ y' _ => ⟨fun _ => bad hz _ _ _, fun _ => bad hz _ _ _⟩, fun _ => ⟨fun _ y' _ => ⟨fun _ => bad hz _ _ _, fun _ => bad hz _ _ _⟩, fun _ y' _ => ⟨fun _ => bad hz _ _ _, fun _ => bad hz _ _ _⟩⟩⟩
  have h81 : ∀ a5 a6 : Int32, ExM l E w (d + 4) MX10_makes 81 [some (.ref w.1), some (.int 4), some (.int (nI p)), some (.int y), some (.int (nI n)), some (.int a5), some (.int a6), none, none, none] [] s Q := by
    intro a5 a6
    refine vX10_makes_81 ⟨fun c => absurd rfl c, fun _ => M_sizeA hst ha0 hr (by have := hC.1; omega) ⟨_, rfl, pk_le a.length 20 (fun c => ?_) (fun c => h1 0 0 0 (Or.inl c)) rfl rfl⟩⟩
    exact h0 c a.length 0 0 (by omega) (fun v hv => by cases hv) (by decide) ⟨fun z => absurd z (by decide), fun ⟨v, hv, _⟩ => by cases hv⟩
  have h24 : ∀ b0 a5 : Int32, ExM l E w (d + 4) MX10_makes 24 [some (.ref w.1), some (.int 4), some (.int (nI p)), some (.int y), some (.int (nI n)), some (.int a5), none, none, none, none] [.int b0] s Q := fun b0 a5 => vX10_makes_24 ⟨fun _ => h81 _ _, fun c => absurd c (by decide)⟩
  exact eX10_makes hst ⟨fun _ => ⟨fun _ => h24 _ _, fun _ => h24 _ _⟩, fun c => absurd (by decide) c⟩
end MM4
