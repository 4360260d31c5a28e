/-! THE MODEL: works -/
theorem len_two {α : Type} {l : List α} (h : l.length = 2) : ∃ x y, l = [x, y] := by
  match l, h with
  | [x, y], _ => exact ⟨x, y, rfl⟩
section MW2
variable {l : Launch} {E : EN} {w : MO} {d : Nat} {Q : Option Value → MS → Prop} {P : Pg} {fuel : Nat} {s0 s : MS} {pc : Nat} {pl : List Th} {fr : List Fm} {wy : List Wy} {sh : Nat → Option Th} {ct : Ct} {out : List Int32}
/-- what is known of an order's state -/
def aRm (P : Pg) (pc : Nat) (pl : List Th) (fr : List Fm) (wy : List Wy) (ct : Ct) : Prop := pl.length ≤ 8300 ∧ fr.length ≤ 10 ∧ 1 ≤ fr.length ∧ wy.length ≤ 390 ∧ (∀ t ∈ pl, ZW t) ∧ ct.2.1 ≤ 3000 ∧ aNeed (P.1 pc) ≤ pl.length
theorem W_4 (hst : l.stackTraces = false) (hop : mOd P s pc) (hg : aRm P pc pl fr wy ct) (hS : mS fuel s0 (pc + 1) pl fr wy sh ct out s) (h127 : s.1 127 = (P.1 pc).2.2.2.2) (ho : (P.1 pc).1 = 4)
    (hQ : ∀ s', mRz fuel s0 (aworks P (P.1 pc) pc pl fr wy sh ct out) s' → Q none s') : EvM l E w (d + 8) MX10_works [.ref w.1, .int (nI pc)] s Q := by
  obtain ⟨hpl, hfr, hfr1, hwy, hzw, hmd, hneed⟩ := hg
  obtain ⟨o1, o2, o3, o4, o5, o6, o7, o8, o9, o10, o11, o12, o13, o14, o15⟩ := id hop
  have e1 : aNeed (P.1 pc) = 1 := by
    unfold aNeed
    rw [ho]
    rfl
  rw [e1] at hneed
  obtain ⟨x, r, rfl⟩ : ∃ x r, pl = x :: r := by
    match pl, hneed with
    | x :: r, _ => exact ⟨x, r, rfl⟩
  have hpl : r.length + 1 ≤ 8300 := hpl
  have wx : ZW x := hzw x List.mem_cons_self
  have e : aworks P (P.1 pc) pc (x :: r) fr wy sh ct out = afin (pc + 1) (zone ((P.1 pc).2.1 == 33) x) r fr wy sh ct out (P.1 pc).2.2.2.2 := by
    unfold aworks
    dsimp only
    rw [ho]
    rfl
  rw [e] at hQ
  obtain ⟨b, hM, hE, hB, hP, hfin⟩ := mS.mok (args := [x]) (rest := r) hS (by show 1 + r.length ≤ 8300; omega) hmd (fun t ht => by rcases List.mem_cons.mp ht with rfl | ht; exact wx; cases ht)
  refine eX10_works hst ⟨inB_n o1, ?_⟩
  rw [nI_clamp (by omega), o2, ho]
  refine ⟨fun _ => ⟨inB_n o1, ?_⟩, fun c => absurd (by decide) c⟩
  rw [(o8 (by rw [ho]; decide)).1]
  have ea : nI (P.1 pc).2.1 = if ((P.1 pc).2.1 == 33) = true then 33 else 45 := by
    rcases o7 ho with h | h <;> rw [h] <;> rfl
  rw [ea]
  refine M_one hst hM (fun s' q => ⟨rfl, hQ s' ?_⟩)
  rw [← h127]
  exact hfin _ s' (zkd_one _ _) q
theorem W_5 (hst : l.stackTraces = false) (hop : mOd P s pc) (hg : aRm P pc pl fr wy ct) (hS : mS fuel s0 (pc + 1) pl fr wy sh ct out s) (h127 : s.1 127 = (P.1 pc).2.2.2.2) (ho : (P.1 pc).1 = 5)
    (hQ : ∀ s', mRz fuel s0 (aworks P (P.1 pc) pc pl fr wy sh ct out) s' → Q none s') : EvM l E w (d + 8) MX10_works [.ref w.1, .int (nI pc)] s Q := by
  obtain ⟨hpl, hfr, hfr1, hwy, hzw, hmd, hneed⟩ := hg
  obtain ⟨o1, o2, o3, o4, o5, o6, o7, o8, o9, o10, o11, o12, o13, o14, o15⟩ := id hop
  have e1 : aNeed (P.1 pc) = 2 := by
    unfold aNeed
    rw [ho]
    rfl
  rw [e1] at hneed
  obtain ⟨y, x, r, rfl⟩ : ∃ y x r, pl = y :: x :: r := by
    match pl, hneed with
    | y :: x :: r, _ => exact ⟨y, x, r, rfl⟩
  have hpl : r.length + 1 + 1 ≤ 8300 := hpl
  have wy2 : ∀ t ∈ [x, y], ZW t := fun t ht => by
    rcases List.mem_cons.mp ht with rfl | ht
    · exact hzw _ (List.mem_cons_of_mem _ List.mem_cons_self)
    · rcases List.mem_cons.mp ht with rfl | ht
      · exact hzw _ List.mem_cons_self
      · cases ht
  have e : aworks P (P.1 pc) pc (y :: x :: r) fr wy sh ct out = afin (pc + 1) (ztwo (nI (P.1 pc).2.1) x y) r fr wy sh ct out (P.1 pc).2.2.2.2 := by
    unfold aworks
    dsimp only
    rw [ho]
    rfl
  rw [e] at hQ
  obtain ⟨b, hM, hE, hB, hP, hfin⟩ := mS.mok (args := [x, y]) (rest := r) hS (by show 2 + r.length ≤ 8300; omega) hmd wy2
  refine eX10_works hst ⟨inB_n o1, ?_⟩
  rw [nI_clamp (by omega), o2, ho]
  refine ⟨fun c => absurd c (by decide), fun _ => ⟨fun _ => ⟨inB_n o1, ?_⟩, fun c => absurd (by decide) c⟩⟩
  rw [(o6 ho).1]
  refine M_two hst (o6 ho).2 hM (fun s' q => ⟨rfl, hQ s' ?_⟩)
  rw [← h127]
  exact hfin _ s' (zkd_two _ _ _) q
theorem W_6 (hst : l.stackTraces = false) (hop : mOd P s pc) (hg : aRm P pc pl fr wy ct) (hS : mS fuel s0 (pc + 1) pl fr wy sh ct out s) (h127 : s.1 127 = (P.1 pc).2.2.2.2) (ho : (P.1 pc).1 = 6)
    (hQ : ∀ s', mRz fuel s0 (aworks P (P.1 pc) pc pl fr wy sh ct out) s' → Q none s') : EvM l E w (d + 8) MX10_works [.ref w.1, .int (nI pc)] s Q := by
  obtain ⟨hpl, hfr, hfr1, hwy, hzw, hmd, hneed⟩ := hg
  obtain ⟨o1, o2, o3, o4, o5, o6, o7, o8, o9, o10, o11, o12, o13, o14, o15⟩ := id hop
  have e1 : aNeed (P.1 pc) = (P.1 pc).2.1 := by
    unfold aNeed
    rw [ho]
    rfl
  rw [e1] at hneed
  have e : aworks P (P.1 pc) pc pl fr wy sh ct out = afin (pc + 1) (zbuild (pl.take (P.1 pc).2.1).reverse) (pl.drop (P.1 pc).2.1) fr wy sh ct out (P.1 pc).2.2.2.2 := by
    unfold aworks
    dsimp only
    rw [ho]
    rfl
  rw [e] at hQ
  have hsp : (pl.take (P.1 pc).2.1).reverse.reverse ++ pl.drop (P.1 pc).2.1 = pl := by rw [List.reverse_reverse, List.take_append_drop]
  have hla : (pl.take (P.1 pc).2.1).reverse.length = (P.1 pc).2.1 := by rw [List.length_reverse, List.length_take]; omega
  have hlr : (pl.drop (P.1 pc).2.1).length = pl.length - (P.1 pc).2.1 := List.length_drop
  have hwa : ∀ t ∈ (pl.take (P.1 pc).2.1).reverse, ZW t := fun t ht => hzw t (List.mem_of_mem_take (List.mem_reverse.mp ht))
  have h108 : s.1 108 = nI pl.length := by
    obtain ⟨b, hB, hP, h105, h108, h119, hb, h123, h124, h126⟩ := hS
    exact h108
  rw [← hsp] at hS
  obtain ⟨b, hM, hE, hB, hP, hfin⟩ := mS.mok hS (by rw [hla, hlr]; omega) hmd hwa
  refine eX10_works hst ⟨inB_n o1, ?_⟩
  rw [nI_clamp (by omega), o2, ho]
  refine ⟨fun c => absurd c (by decide), fun _ => ⟨fun c => absurd c (by decide), fun _ => ⟨fun _ => ⟨inB_n o1, ?_⟩, fun c => absurd (by decide) c⟩⟩⟩
  rw [(o8 (by rw [ho]; decide)).1, h108, pk_sub (by omega), ← hlr]
  refine M_literal hst hM (fun s' q => ⟨rfl, hQ s' ?_⟩)
  rw [← h127]
  exact hfin _ s' (zkd_build _) q
theorem W_7 (hst : l.stackTraces = false) (hop : mOd P s pc) (hg : aRm P pc pl fr wy ct) (hS : mS fuel s0 (pc + 1) pl fr wy sh ct out s) (h127 : s.1 127 = (P.1 pc).2.2.2.2) (ho : (P.1 pc).1 = 7)
    (hQ : ∀ s', mRz fuel s0 (aworks P (P.1 pc) pc pl fr wy sh ct out) s' → Q none s') : EvM l E w (d + 8) MX10_works [.ref w.1, .int (nI pc)] s Q := by
  obtain ⟨hpl, hfr, hfr1, hwy, hzw, hmd, hneed⟩ := hg
  obtain ⟨o1, o2, o3, o4, o5, o6, o7, o8, o9, o10, o11, o12, o13, o14, o15⟩ := id hop
  have e1 : aNeed (P.1 pc) = 2 := by
    unfold aNeed
    rw [ho]
    rfl
  rw [e1] at hneed
  obtain ⟨y, x, r, rfl⟩ : ∃ y x r, pl = y :: x :: r := by
    match pl, hneed with
    | y :: x :: r, _ => exact ⟨y, x, r, rfl⟩
  have hpl : r.length + 1 + 1 ≤ 8300 := hpl
  have wy2 : ∀ t ∈ [x, y], ZW t := fun t ht => by
    rcases List.mem_cons.mp ht with rfl | ht
    · exact hzw _ (List.mem_cons_of_mem _ List.mem_cons_self)
    · rcases List.mem_cons.mp ht with rfl | ht
      · exact hzw _ List.mem_cons_self
      · cases ht
  have e : aworks P (P.1 pc) pc (y :: x :: r) fr wy sh ct out = afin (pc + 1) (zindex x y) r fr wy sh ct out (P.1 pc).2.2.2.2 := by
    unfold aworks
    dsimp only
    rw [ho]
    rfl
  rw [e] at hQ
  obtain ⟨b, hM, hE, hB, hP, hfin⟩ := mS.mok (args := [x, y]) (rest := r) hS (by show 2 + r.length ≤ 8300; omega) hmd wy2
  refine eX10_works hst ⟨inB_n o1, ?_⟩
  rw [nI_clamp (by omega), o2, ho]
  refine ⟨fun c => absurd c (by decide), fun _ => ⟨fun c => absurd c (by decide), fun _ => ⟨fun c => absurd c (by decide), fun _ => ⟨fun _ => ?_, fun c => absurd (by decide) c⟩⟩⟩⟩
  refine M_index hst hM (fun s' q => ⟨rfl, hQ s' ?_⟩)
  rw [← h127]
  exact hfin _ s' (zkd_index _ _) q
theorem W_8 (hst : l.stackTraces = false) (hop : mOd P s pc) (hg : aRm P pc pl fr wy ct) (hS : mS fuel s0 (pc + 1) pl fr wy sh ct out s) (h127 : s.1 127 = (P.1 pc).2.2.2.2) (ho : (P.1 pc).1 = 8)
    (hQ : ∀ s', mRz fuel s0 (aworks P (P.1 pc) pc pl fr wy sh ct out) s' → Q none s') : EvM l E w (d + 8) MX10_works [.ref w.1, .int (nI pc)] s Q := by
  obtain ⟨hpl, hfr, hfr1, hwy, hzw, hmd, hneed⟩ := hg
  obtain ⟨o1, o2, o3, o4, o5, o6, o7, o8, o9, o10, o11, o12, o13, o14, o15⟩ := id hop
  have e1 : aNeed (P.1 pc) = (P.1 pc).2.2.1 := by
    unfold aNeed
    rw [ho]
    rfl
  rw [e1] at hneed
  have e : aworks P (P.1 pc) pc pl fr wy sh ct out = afin (pc + 1) (abi (P.1 pc).2.1 (pl.take (P.1 pc).2.2.1).reverse) (pl.drop (P.1 pc).2.2.1) fr wy sh ct out (P.1 pc).2.2.2.2 := by
    unfold aworks
    dsimp only
    rw [ho]
    rfl
  rw [e] at hQ
  have hsp : (pl.take (P.1 pc).2.2.1).reverse.reverse ++ pl.drop (P.1 pc).2.2.1 = pl := by rw [List.reverse_reverse, List.take_append_drop]
  have hla : (pl.take (P.1 pc).2.2.1).reverse.length = (P.1 pc).2.2.1 := by rw [List.length_reverse, List.length_take]; omega
  have hlr : (pl.drop (P.1 pc).2.2.1).length = pl.length - (P.1 pc).2.2.1 := List.length_drop
  have hwa : ∀ t ∈ (pl.take (P.1 pc).2.2.1).reverse, ZW t := fun t ht => hzw t (List.mem_of_mem_take (List.mem_reverse.mp ht))
  have h108 : s.1 108 = nI pl.length := by
    obtain ⟨b, hB, hP, h105, h108, h119, hb, h123, h124, h126⟩ := hS
    exact h108
  rw [← hsp] at hS
  obtain ⟨b, hM, hE, hB, hP, hfin⟩ := mS.mok hS (by rw [hla, hlr]; omega) hmd hwa
  refine eX10_works hst ⟨inB_n o1, ?_⟩
  rw [nI_clamp (by omega), o2, ho]
  refine ⟨fun c => absurd c (by decide), fun _ => ⟨fun c => absurd c (by decide), fun _ => ⟨fun c => absurd c (by decide), fun _ => ⟨fun c => absurd c (by decide), fun _ => ⟨fun _ => ⟨inB_n o1, inB_n o1, ?_⟩, fun c => absurd (by decide) c⟩⟩⟩⟩⟩
  rw [(o8 (by rw [ho]; decide)).1, (o10 (by rw [ho]; decide)).1, h108, pk_sub (by omega), ← hlr]
  have o13 := o13 ho
  have fin : ∀ s', mop b (pl.drop (P.1 pc).2.2.1).length ct.2.1 (abi (P.1 pc).2.1 (pl.take (P.1 pc).2.2.1).reverse) s s' → (none : Option Value) = none ∧ Q none s' := by
    intro s' q
    refine ⟨rfl, hQ s' ?_⟩
    rw [← h127]
    exact hfin _ s' (zkd_bi _ _) q
  generalize hB0 : (P.1 pc).2.1 = B at o13 fin
  have hlt := o13.1
  rcases (show B = 0 ∨ B = 1 ∨ B = 2 ∨ B = 3 ∨ B = 4 ∨ B = 5 ∨ B = 6 ∨ B = 7 ∨ B = 8 ∨ B = 9 ∨ B = 10 ∨ B = 11 ∨ B = 12 ∨ B = 13 ∨ B = 14 ∨ B = 15 ∨ B = 16 ∨ B = 17 ∨ B = 18 ∨ B = 19 ∨ B = 20 ∨ B = 21 ∨ B = 22 ∨ B = 23 ∨ B = 24 ∨ B = 25 ∨ B = 26 ∨ B = 27 by omega) with ea | ea | ea | ea | ea | ea | ea | ea | ea | ea | ea | ea | ea | ea | ea | ea | ea | ea | ea | ea | ea | ea | ea | ea | ea | ea | ea | ea <;> rw [ea] at o13 fin <;> rw [ea]
  · have hb1 : (P.1 pc).2.2.1 = 1 := (o13.2.2 (by decide)).trans (if_neg (by decide))
    obtain ⟨x, hx⟩ : ∃ x, (pl.take (P.1 pc).2.2.1).reverse = [x] := List.length_eq_one_iff.mp (by rw [hla, hb1])
    rw [hx] at hM fin
    refine M_b0 hst hM (fun s' q => fin s' ?_)
    exact q
  · have hb1 : (P.1 pc).2.2.1 = 1 := (o13.2.2 (by decide)).trans (if_neg (by decide))
    obtain ⟨x, hx⟩ : ∃ x, (pl.take (P.1 pc).2.2.1).reverse = [x] := List.length_eq_one_iff.mp (by rw [hla, hb1])
    rw [hx] at hM fin
    refine M_b1 hst hM (fun s' q => fin s' ?_)
    exact q
  · have hb1 : (P.1 pc).2.2.1 = 1 := (o13.2.2 (by decide)).trans (if_neg (by decide))
    obtain ⟨x, hx⟩ : ∃ x, (pl.take (P.1 pc).2.2.1).reverse = [x] := List.length_eq_one_iff.mp (by rw [hla, hb1])
    rw [hx] at hM fin
    refine M_b2 hst hM (fun s' q => fin s' ?_)
    exact q
  · have hb1 : (P.1 pc).2.2.1 = 2 := (o13.2.2 (by decide)).trans (if_pos (by decide))
    obtain ⟨x, y, hx⟩ : ∃ x y, (pl.take (P.1 pc).2.2.1).reverse = [x, y] := len_two (by rw [hla, hb1])
    rw [hx] at hM fin
    refine M_b3 hst hM hE (fun s' q => fin s' ?_)
    exact q
  · have hb1 : (P.1 pc).2.2.1 = 1 := (o13.2.2 (by decide)).trans (if_neg (by decide))
    obtain ⟨x, hx⟩ : ∃ x, (pl.take (P.1 pc).2.2.1).reverse = [x] := List.length_eq_one_iff.mp (by rw [hla, hb1])
    rw [hx] at hM fin
    refine M_b4 hst hM (fun s' q => fin s' ?_)
    exact q
  · have hb6 := o13.2.1 rfl
    refine M_box hst (by rw [hla]; exact hb6) hM (fun s' q => fin s' ?_)
    exact q
  · have hb1 : (P.1 pc).2.2.1 = 1 := (o13.2.2 (by decide)).trans (if_neg (by decide))
    obtain ⟨x, hx⟩ : ∃ x, (pl.take (P.1 pc).2.2.1).reverse = [x] := List.length_eq_one_iff.mp (by rw [hla, hb1])
    rw [hx] at hM fin
    refine M_b6 hst hM (fun s' q => fin s' ?_)
    exact q
  · have hb1 : (P.1 pc).2.2.1 = 1 := (o13.2.2 (by decide)).trans (if_neg (by decide))
    obtain ⟨x, hx⟩ : ∃ x, (pl.take (P.1 pc).2.2.1).reverse = [x] := List.length_eq_one_iff.mp (by rw [hla, hb1])
    rw [hx] at hM fin
    refine M_b7 hst hM (fun s' q => fin s' ?_)
    exact q
  · have hb1 : (P.1 pc).2.2.1 = 1 := (o13.2.2 (by decide)).trans (if_neg (by decide))
    obtain ⟨x, hx⟩ : ∃ x, (pl.take (P.1 pc).2.2.1).reverse = [x] := List.length_eq_one_iff.mp (by rw [hla, hb1])
    rw [hx] at hM fin
    refine M_b8 hst hM (fun s' q => fin s' ?_)
    exact q
  · have hb1 : (P.1 pc).2.2.1 = 1 := (o13.2.2 (by decide)).trans (if_neg (by decide))
    obtain ⟨x, hx⟩ : ∃ x, (pl.take (P.1 pc).2.2.1).reverse = [x] := List.length_eq_one_iff.mp (by rw [hla, hb1])
    rw [hx] at hM fin
    refine M_b9 hst hM (fun s' q => fin s' ?_)
    exact q
  · have hb1 : (P.1 pc).2.2.1 = 1 := (o13.2.2 (by decide)).trans (if_neg (by decide))
    obtain ⟨x, hx⟩ : ∃ x, (pl.take (P.1 pc).2.2.1).reverse = [x] := List.length_eq_one_iff.mp (by rw [hla, hb1])
    rw [hx] at hM fin
    refine M_b10 hst hM (fun s' q => fin s' ?_)
    exact q
  · have hb1 : (P.1 pc).2.2.1 = 1 := (o13.2.2 (by decide)).trans (if_neg (by decide))
    obtain ⟨x, hx⟩ : ∃ x, (pl.take (P.1 pc).2.2.1).reverse = [x] := List.length_eq_one_iff.mp (by rw [hla, hb1])
    rw [hx] at hM fin
    refine M_b11 hst hM (fun s' q => fin s' ?_)
    exact q
  · have hb1 : (P.1 pc).2.2.1 = 1 := (o13.2.2 (by decide)).trans (if_neg (by decide))
    obtain ⟨x, hx⟩ : ∃ x, (pl.take (P.1 pc).2.2.1).reverse = [x] := List.length_eq_one_iff.mp (by rw [hla, hb1])
    rw [hx] at hM fin
    refine M_b12 hst hM (fun s' q => fin s' ?_)
    exact q
  · have hb1 : (P.1 pc).2.2.1 = 1 := (o13.2.2 (by decide)).trans (if_neg (by decide))
    obtain ⟨x, hx⟩ : ∃ x, (pl.take (P.1 pc).2.2.1).reverse = [x] := List.length_eq_one_iff.mp (by rw [hla, hb1])
    rw [hx] at hM fin
    refine M_b13 hst hM (fun s' q => fin s' ?_)
    exact q
  · have hb1 : (P.1 pc).2.2.1 = 1 := (o13.2.2 (by decide)).trans (if_neg (by decide))
    obtain ⟨x, hx⟩ : ∃ x, (pl.take (P.1 pc).2.2.1).reverse = [x] := List.length_eq_one_iff.mp (by rw [hla, hb1])
    rw [hx] at hM fin
    refine M_b14 hst hM (fun s' q => fin s' ?_)
    exact q
  · have hb1 : (P.1 pc).2.2.1 = 1 := (o13.2.2 (by decide)).trans (if_neg (by decide))
    obtain ⟨x, hx⟩ : ∃ x, (pl.take (P.1 pc).2.2.1).reverse = [x] := List.length_eq_one_iff.mp (by rw [hla, hb1])
    rw [hx] at hM fin
    refine M_b15 hst hM (fun s' q => fin s' ?_)
    exact q
  · have hb1 : (P.1 pc).2.2.1 = 1 := (o13.2.2 (by decide)).trans (if_neg (by decide))
    obtain ⟨x, hx⟩ : ∃ x, (pl.take (P.1 pc).2.2.1).reverse = [x] := List.length_eq_one_iff.mp (by rw [hla, hb1])
    rw [hx] at hM fin
    refine M_b16 hst hM (fun s' q => fin s' ?_)
    exact q
  · have hb1 : (P.1 pc).2.2.1 = 1 := (o13.2.2 (by decide)).trans (if_neg (by decide))
    obtain ⟨x, hx⟩ : ∃ x, (pl.take (P.1 pc).2.2.1).reverse = [x] := List.length_eq_one_iff.mp (by rw [hla, hb1])
    rw [hx] at hM fin
    refine M_b17 hst hM (fun s' q => fin s' ?_)
    exact q
  · have hb1 : (P.1 pc).2.2.1 = 1 := (o13.2.2 (by decide)).trans (if_neg (by decide))
    obtain ⟨x, hx⟩ : ∃ x, (pl.take (P.1 pc).2.2.1).reverse = [x] := List.length_eq_one_iff.mp (by rw [hla, hb1])
    rw [hx] at hM fin
    refine M_b18 hst hM (fun s' q => fin s' ?_)
    exact q
  · have hb1 : (P.1 pc).2.2.1 = 2 := (o13.2.2 (by decide)).trans (if_pos (by decide))
    obtain ⟨x, y, hx⟩ : ∃ x y, (pl.take (P.1 pc).2.2.1).reverse = [x, y] := len_two (by rw [hla, hb1])
    rw [hx] at hM fin
    refine M_b19 hst hM hE (fun s' q => fin s' ?_)
    exact q
  · have hb1 : (P.1 pc).2.2.1 = 2 := (o13.2.2 (by decide)).trans (if_pos (by decide))
    obtain ⟨x, y, hx⟩ : ∃ x y, (pl.take (P.1 pc).2.2.1).reverse = [x, y] := len_two (by rw [hla, hb1])
    rw [hx] at hM fin
    refine M_b20 hst hM hE (fun s' q => fin s' ?_)
    exact q
  · have hb1 : (P.1 pc).2.2.1 = 2 := (o13.2.2 (by decide)).trans (if_pos (by decide))
    obtain ⟨x, y, hx⟩ : ∃ x y, (pl.take (P.1 pc).2.2.1).reverse = [x, y] := len_two (by rw [hla, hb1])
    rw [hx] at hM fin
    refine M_b21 hst hM hE (fun s' q => fin s' ?_)
    exact q
  · have hb1 : (P.1 pc).2.2.1 = 2 := (o13.2.2 (by decide)).trans (if_pos (by decide))
    obtain ⟨x, y, hx⟩ : ∃ x y, (pl.take (P.1 pc).2.2.1).reverse = [x, y] := len_two (by rw [hla, hb1])
    rw [hx] at hM fin
    refine M_b22 hst hM hE (fun s' q => fin s' ?_)
    exact q
  · have hb1 : (P.1 pc).2.2.1 = 2 := (o13.2.2 (by decide)).trans (if_pos (by decide))
    obtain ⟨x, y, hx⟩ : ∃ x y, (pl.take (P.1 pc).2.2.1).reverse = [x, y] := len_two (by rw [hla, hb1])
    rw [hx] at hM fin
    refine M_b23 hst hM hE (fun s' q => fin s' ?_)
    exact q
  · have hb1 : (P.1 pc).2.2.1 = 2 := (o13.2.2 (by decide)).trans (if_pos (by decide))
    obtain ⟨x, y, hx⟩ : ∃ x y, (pl.take (P.1 pc).2.2.1).reverse = [x, y] := len_two (by rw [hla, hb1])
    rw [hx] at hM fin
    refine M_b24 hst hM hE (fun s' q => fin s' ?_)
    exact q
  · have hb1 : (P.1 pc).2.2.1 = 2 := (o13.2.2 (by decide)).trans (if_pos (by decide))
    obtain ⟨x, y, hx⟩ : ∃ x y, (pl.take (P.1 pc).2.2.1).reverse = [x, y] := len_two (by rw [hla, hb1])
    rw [hx] at hM fin
    refine M_b25 hst hM hE (fun s' q => fin s' ?_)
    exact q
  · have hb1 : (P.1 pc).2.2.1 = 2 := (o13.2.2 (by decide)).trans (if_pos (by decide))
    obtain ⟨x, y, hx⟩ : ∃ x y, (pl.take (P.1 pc).2.2.1).reverse = [x, y] := len_two (by rw [hla, hb1])
    rw [hx] at hM fin
    refine M_b26 hst hM hE (fun s' q => fin s' ?_)
    exact q
  · have hb1 : (P.1 pc).2.2.1 = 2 := (o13.2.2 (by decide)).trans (if_pos (by decide))
    obtain ⟨x, y, hx⟩ : ∃ x y, (pl.take (P.1 pc).2.2.1).reverse = [x, y] := len_two (by rw [hla, hb1])
    rw [hx] at hM fin
    refine M_b27 hst hM hE (fun s' q => fin s' ?_)
    exact q
theorem W_9 (hst : l.stackTraces = false) (hop : mOd P s pc) (hg : aRm P pc pl fr wy ct) (hS : mS fuel s0 (pc + 1) pl fr wy sh ct out s) (h127 : s.1 127 = (P.1 pc).2.2.2.2) (ho : (P.1 pc).1 = 9)
    (hQ : ∀ s', mRz fuel s0 (aworks P (P.1 pc) pc pl fr wy sh ct out) s' → Q none s') : EvM l E w (d + 8) MX10_works [.ref w.1, .int (nI pc)] s Q := by
  obtain ⟨hpl, hfr, hfr1, hwy, hzw, hmd, hneed⟩ := hg
  obtain ⟨o1, o2, o3, o4, o5, o6, o7, o8, o9, o10, o11, o12, o13, o14, o15⟩ := id hop
  have e1 : aNeed (P.1 pc) = (P.1 pc).2.2.1 := by
    unfold aNeed
    rw [ho]
    rfl
  rw [e1] at hneed
  have e : aworks P (P.1 pc) pc pl fr wy sh ct out = aenter P (P.1 pc).2.1 (P.1 pc).2.2.1 (pc + 1) pl fr wy sh ct out (P.1 pc).2.2.2.2 := by
    unfold aworks
    dsimp only
    rw [ho]
    rfl
  rw [e] at hQ
  have h126 : s.1 126 = nI (pc + 1) := by
    obtain ⟨b, hB, hP, h105, h108, h119, hb, h123, h124, h126⟩ := hS
    exact h126 (fun c => by rw [c] at hfr1; exact absurd hfr1 (by decide))
  have hsp : (pl.take (P.1 pc).2.2.1).reverse.reverse ++ pl.drop (P.1 pc).2.2.1 = pl := by rw [List.reverse_reverse, List.take_append_drop]
  have hla : (pl.take (P.1 pc).2.2.1).reverse.length = (P.1 pc).2.2.1 := by rw [List.length_reverse, List.length_take]; omega
  have hlr : (pl.drop (P.1 pc).2.2.1).length = pl.length - (P.1 pc).2.2.1 := List.length_drop
  have hwa : ∀ t ∈ (pl.take (P.1 pc).2.2.1).reverse, ZW t := fun t ht => hzw t (List.mem_of_mem_take (List.mem_reverse.mp ht))
  have h108 : s.1 108 = nI pl.length := by
    obtain ⟨b, hB, hP, h105, h108, h119, hb, h123, h124, h126⟩ := hS
    exact h108
  rw [← hsp] at hS
  refine eX10_works hst ⟨inB_n o1, ?_⟩
  rw [nI_clamp (by omega), o2, ho]
  refine ⟨fun c => absurd c (by decide), fun _ => ⟨fun c => absurd c (by decide), fun _ => ⟨fun c => absurd c (by decide), fun _ => ⟨fun c => absurd c (by decide), fun _ => ⟨fun c => absurd c (by decide), fun _ => ⟨fun _ => ⟨inB_n o1, inB_n o1, ?_⟩, fun c => absurd (by decide) c⟩⟩⟩⟩⟩⟩
  rw [(o8 (by rw [ho]; decide)).1, (o10 (by rw [ho]; decide)).1, h126]
  unfold aenter at hQ
  by_cases c : fr.length = 10
  · rw [if_pos c, ← h127] at hQ
    rw [hsp] at hS
    refine eX10_enters hst ⟨fun z => absurd ?_ z, fun _ => M_trouble hst hS.z ⟨rfl, rfl, hQ _ (Or.inr (mS.tr (a := []) hS rfl (by decide) (by decide) (by decide)))⟩⟩
    obtain ⟨b, hB, _⟩ := hS
    rw [hB.2.1, c]; rfl
  · rw [if_neg c] at hQ
    have := M_enters (l := l) (E := E) (w := w) (d := d + 6) (Q := fun r s1 => r = none ∧ Q none s1) hst hS (f := (P.1 pc).2.1) (fpc := (P.2 (P.1 pc).2.1).2) (bk := pc + 1) (x3 := nI (pc + 1)) (by rw [hla, hlr]; omega) hwa (o14 ho).1 (o14 ho).2 (fun _ => rfl) (by omega) (fun s' q => ⟨rfl, hQ s' (Or.inl ⟨rfl, q⟩)⟩)
    rw [hla] at this
    exact this
theorem W_10 (hst : l.stackTraces = false) (hop : mOd P s pc) (hg : aRm P pc pl fr wy ct) (hS : mS fuel s0 (pc + 1) pl fr wy sh ct out s) (h127 : s.1 127 = (P.1 pc).2.2.2.2) (ho : (P.1 pc).1 = 10)
    (hQ : ∀ s', mRz fuel s0 (aworks P (P.1 pc) pc pl fr wy sh ct out) s' → Q none s') : EvM l E w (d + 8) MX10_works [.ref w.1, .int (nI pc)] s Q := by
  obtain ⟨hpl, hfr, hfr1, hwy, hzw, hmd, hneed⟩ := hg
  obtain ⟨o1, o2, o3, o4, o5, o6, o7, o8, o9, o10, o11, o12, o13, o14, o15⟩ := id hop
  have e1 : aNeed (P.1 pc) = 1 := by
    unfold aNeed
    rw [ho]
    rfl
  rw [e1] at hneed
  obtain ⟨x, r, rfl⟩ : ∃ x r, pl = x :: r := by
    match pl, hneed with
    | x :: r, _ => exact ⟨x, r, rfl⟩
  have hpl : r.length + 1 ≤ 8300 := hpl
  have wx : ZW x := hzw x List.mem_cons_self
  have e : aworks P (P.1 pc) pc (x :: r) fr wy sh ct out = (if zk x = 0 then (pc + 1, r, fr, wy, sh, ct, out, (3, (P.1 pc).2.2.2.2, 0)) else (pc + 1, r, fr, ((if (P.1 pc).2.1 = 28 then 3 else 4), some x, 0, 0, zn x, r.length, fr.length, 0) :: wy, sh, ct, out, (0, -1, 0))) := by
    unfold aworks
    dsimp only
    rw [ho]
    rfl
  rw [e] at hQ
  have hS1 := hS.pop
  have htr : mTr fuel s0 r fr wy sh ct out (3, s.1 127, 0) (sI (sI s 123 3) 124 (s.1 127)) := mS.tr (a := [x]) hS rfl (by decide) (by decide) (by decide)
  obtain ⟨b, hB, hP, h105, h108, h119, hb, h123, h124, h126⟩ := hS
  have h108 : s.1 108 = nI (r.length + 1) := h108
  have e108 : s.1 108 - 1 = nI r.length := by rw [h108]; exact nI_pred r.length
  refine eX10_works hst ⟨inB_n o1, ?_⟩
  rw [nI_clamp (by omega), o2, ho]
  refine ⟨fun c => absurd c (by decide), fun _ => ⟨fun c => absurd c (by decide), fun _ => ⟨fun c => absurd c (by decide), fun _ => ⟨fun c => absurd c (by decide), fun _ => ⟨fun c => absurd c (by decide), fun _ => ⟨fun c => absurd c (by decide), fun _ => ?_⟩⟩⟩⟩⟩⟩
  rw [e108, show (nI r.length).toNatClampNeg = r.length from nI_clamp (by omega), (o8 (by rw [ho]; decide)).1]
  have hv := hP.1
  have hB1 := hB.si 108 (nI r.length)
  have hP1 := hP.2.si (j := 108) (v := nI r.length)
  refine ⟨inB_n (by omega), ?_⟩
  rw [hv.k0]
  refine ⟨fun c => ⟨inB_n o1, ?_⟩, fun c => M_trouble hst h123 ⟨rfl, hQ _ ?_⟩⟩
  · obtain ⟨_, p, ep, hr⟩ := hv.thing c
    rw [if_neg c] at hQ
    have hh := rmT_head hr
    rw [ep]
    have hlt := (o8 (by rw [ho]; decide)).2
    refine bn_eq (P.1 pc).2.1 28 (fun c8 => ⟨inB_n (by omega), inB_n (by omega), M_sizeAt hst (v := nI (zn x)) (by have := hB.em.1; omega) hh.2.2.1 ⟨_, rfl, ?_⟩⟩) (fun c8 => ⟨inB_n (by omega), inB_n (by omega), M_sizeAt hst (v := nI (zn x)) (by have := hB.em.1; omega) hh.2.2.1 ⟨_, rfl, ?_⟩⟩) rfl rfl
    · rw [if_neg c8] at hQ
      refine M_way hst hB1.2.2.2.1 (by omega) ⟨rfl, hQ _ (Or.inl ⟨rfl, b, hB1.way (4, some x, 0, 0, zn x, r.length, fr.length, 0) rfl (show 4 < 5 by decide) rfl rfl (fun z => absurd z (show ¬ 4 = 2 by decide)) (fun _ => ⟨⟨wx, p, rfl, hr⟩, rfl, fun z => rfl⟩), hP1.way, h105, rfl, h119, hb, h123, h124, h126⟩)⟩
    · rw [if_pos c8] at hQ
      refine M_way hst hB1.2.2.2.1 (by omega) ⟨rfl, hQ _ (Or.inl ⟨rfl, b, hB1.way (3, some x, 0, 0, zn x, r.length, fr.length, 0) rfl (show 3 < 5 by decide) rfl rfl (fun z => absurd z (show ¬ 3 = 2 by decide)) (fun _ => ⟨⟨wx, p, rfl, hr⟩, rfl, fun z => rfl⟩), hP1.way, h105, rfl, h119, hb, h123, h124, h126⟩)⟩
  · rw [if_pos c, ← h127]
    exact Or.inr htr
end MW2
