def mfL (to : Nat) (s s' : MS) : Prop := s'.1 = s.1 ∧ s'.2.1 = s.2.1 ∧ s'.2.2.2 = s.2.2.2 ∧ (∀ i, (i < to ∨ to + 2410 ≤ i) → s'.2.2.1 104 i = s.2.2.1 104 i) ∧ ∀ j, ¬ j = 104 → ¬ j = 115 → ¬ j = 116 → s'.2.2.1 j = s.2.2.1 j
theorem mfL.rf (to : Nat) (s : MS) : mfL to s s := ⟨rfl, rfl, rfl, fun _ _ => rfl, fun _ _ _ _ => rfl⟩
theorem mfL.trans {to : Nat} {s s' s'' : MS} (h : mfL to s s') (k : mfL to s' s'') : mfL to s s'' := ⟨k.1.trans h.1, k.2.1.trans h.2.1, k.2.2.1.trans h.2.2.1, fun i hi => (k.2.2.2.1 i hi).trans (h.2.2.2.1 i hi), fun j h1 h2 h3 => (k.2.2.2.2 j h1 h2 h3).trans (h.2.2.2.2 j h1 h2 h3)⟩
theorem mfL.q (to : Nat) (s : MS) {j k : Nat} {v : Int32} (hj : j = 115 ∨ j = 116) : mfL to s (sA s j k v) := ⟨rfl, rfl, rfl, fun i _ => sA_ne s v (fun e => by omega), fun i h1 h2 h3 => by
  funext z
  exact sA_ne s v (fun e => by omega)⟩
theorem mfL.w (to : Nat) (s : MS) {k : Nat} {v : Int32} (h1 : to ≤ k) (h2 : k < to + 2410) : mfL to s (sA s 104 k v) := ⟨rfl, rfl, rfl, fun i hi => sA_ne s v (fun e => by omega), fun i h1 h2 h3 => by
  funext z
  exact sA_ne s v (fun e => h1 e.1)⟩
def chW (x : Th) : Nat := ((zch x).map zWz).sum
def chC (x : Th) : Nat := ((zch x).map zb).sum
/-- what is laid down, or is still to be -/
def LyQ (o B to : Nat) (s : MS) (Ts : List Th) (S : Nat → Nat) (s1 : MS) : Prop := mfL to s s1 ∧ (∀ k, k < Ts.length → s1.2.2.1 115 k = nI (o + S k) ∧ s1.2.2.1 116 k = nI (to + zD Ts k) ∧ rmT (fun i => s.2.2.1 104 (o + i)) B true (Ts.getD k (zI 0)) (S k) 0) ∧ ∀ x ∈ Ts, ZW x ∧ ¬ zk x = 0
theorem ze_drop {x : Th} {i : Nat} (h : i < zn x) : (ze x).drop i = zel x i :: (ze x).drop (i + 1) := by
  rw [zn_ze] at h
  have : zel x i = (ze x)[i] := getD_lt (zI 0) h
  rw [this]
  exact List.drop_eq_getElem_cons h
theorem LyH.set {hm hm' : Nat → Int32} {Ts : List Th} {R : List Th} {q i : Nat} {x : Th} (h1x : ¬ zk x = 1) (hz : ¬ zk (zel x i) = 0) (hq : q ≤ Ts.length) (hag : ∀ a, ¬ a = zD Ts q + zpt x i → hm' a = hm a) (hp : 2 ≤ zpt x i) (h : LyH hm Ts q x) : LyH hm' (Ts ++ R) q x := by
  obtain ⟨h1, h2, h3, h4⟩ := h
  unfold LyH
  rw [zD_app R hq]
  refine ⟨by rw [hag _ (by omega)]; exact h1, by rw [hag _ (by omega)]; exact h2, fun c => absurd c h1x, fun c j hj => ?_⟩
  have e : zpt x i = 3 + 2 * i := by unfold zpt; rw [if_neg (by omega)]
  obtain ⟨f1, f2⟩ := h4 c j hj
  refine ⟨by rw [hag _ (by omega)]; exact f1, fun c2 => ?_⟩
  have hne : ¬ j = i := fun z => hz (by rw [← z]; exact c2)
  rw [hag _ (by omega)]
  exact f2 c2
theorem LyP.set {hm hm' : Nat → Int32} {Ts : List Th} {q i : Nat} {x : Th} (hq : q < Ts.length) (hag : ∀ a, ¬ a = zD Ts q + zpt x i → hm' a = hm a) (hnew : hm' (zD Ts q + zpt x i) = nI (zD Ts Ts.length) - nI (zD Ts q)) (h : LyP hm Ts q x i) : LyP hm' (Ts ++ [zel x i]) q x (i + 1) := by
  intro i' hi' hz
  by_cases c : i' = i
  · subst c
    refine ⟨Ts.length, hq, by rw [List.length_append]; exact Nat.lt_succ_self _, getD_last _ _ _, ?_⟩
    rw [zD_app _ (Nat.le_of_lt hq), zD_app _ (Nat.le_refl _)]
    exact hnew
  · obtain ⟨m, m1, m2, m3, m4⟩ := h i' (by omega) hz
    refine ⟨m, m1, by rw [List.length_append]; omega, by rw [getD_app1 _ _ m2]; exact m3, ?_⟩
    rw [zD_app _ (Nat.le_of_lt hq), zD_app _ (Nat.le_of_lt m2), hag _ (by unfold zpt; split <;> omega)]
    exact m4
theorem sA3_104 (s : MS) (n k : Nat) (a b c : Int32) (x : Nat) : (sA (sA (sA s 115 n a) 116 n b) 104 k c).2.2.1 104 x = if x = k then c else s.2.2.1 104 x := by
  by_cases e : x = k
  · rw [if_pos e, e]; exact if_pos ⟨rfl, rfl⟩
  · rw [if_neg e, sA_ne _ _ (fun z => e z.2), sA_ne _ _ (fun z => absurd z.1 (by decide)), sA_ne _ _ (fun z => absurd z.1 (by decide))]
theorem sA3_115 (s : MS) (n k : Nat) (a b c : Int32) (x : Nat) : (sA (sA (sA s 115 n a) 116 n b) 104 k c).2.2.1 115 x = if x = n then a else s.2.2.1 115 x := by
  rw [sA_ne _ _ (fun z => absurd z.1 (by decide)), sA_ne _ _ (fun z => absurd z.1 (by decide))]
  by_cases e : x = n
  · rw [if_pos e, e]; exact if_pos ⟨rfl, rfl⟩
  · rw [if_neg e, sA_ne _ _ (fun z => e z.2)]
theorem sA3_116 (s : MS) (n k : Nat) (a b c : Int32) (x : Nat) : (sA (sA (sA s 115 n a) 116 n b) 104 k c).2.2.1 116 x = if x = n then b else s.2.2.1 116 x := by
  rw [sA_ne _ _ (fun z => absurd z.1 (by decide))]
  by_cases e : x = n
  · rw [if_pos e, e]; exact if_pos ⟨rfl, rfl⟩
  · rw [if_neg e, sA_ne _ _ (fun z => e z.2), sA_ne _ _ (fun z => absurd z.1 (by decide))]
section MLy
variable {l : Launch} {E : EN} {w : MO} {d : Nat} {s : MS} {Q : Option Value → MS → Prop}
theorem M_numbersOf (hst : l.stackTraces = false) {p : Nat} {x : Th} (h1 : s.2.2.1 104 p = nI (zk x)) (h2 : s.2.2.1 104 (p + 1) = nI (zn x)) (hp : p + 1 < 166300) (hQ : Q (some (.int (nI (znb x)))) s) : EvM l E w (d + 1) MX10_numbersOf [.ref w.1, .int (nI p)] s Q := by
  have hk := zk_le x
  refine eX10_numbersOf hst ⟨inB_n (by omega), ?_⟩
  rw [nI_clamp (by omega), h1]
  unfold znb at hQ
  refine bn_eq (zk x) 3 (fun c => M_sizeAt hst hp h2 ⟨_, rfl, ?_⟩) (fun c => M_sizeAt hst hp h2 ⟨_, rfl, ?_⟩) rfl rfl
  · rw [nI_2l]; rw [if_neg c] at hQ; exact hQ
  · rw [nI_m2, nI_2l]; rw [if_pos c] at hQ; exact hQ
theorem M_lay (hst : l.stackTraces = false) {o B to p : Nat} {t : Th} (ht : ZW t) (hkt : ¬ zk t = 0) (hto : to + 2410 ≤ 154240) (hoB : o + B ≤ 166300) (hdis : ∀ a, a < B → (a < 19280 ∨ 154240 ≤ a) → o + a < to ∨ to + 2410 ≤ o + a) (hsrc : rmT (fun i => s.2.2.1 104 (o + i)) B true t p 0) (hQ : ∀ s', mfL to s s' → rmT (fun i => s'.2.2.1 104 (to + i)) 2410 true t 0 0 → Q none s') : EvM l E w (d + 3) MX10_lay [.ref w.1, .int 1, .int (nI (o + p)), .int (nI to)] s Q := by
  have hb6 : zb t ≤ 600 := by
    rcases zcases ht with ⟨v, rfl⟩ | ⟨a, rfl, h3⟩ | ⟨a, rfl, h3, h4, _⟩ | ⟨l, rfl, h3, h4, _⟩
    · show 1 ≤ 600; decide
    · show 1 + a.length ≤ 600; omega
    · show 1 + a.length + zis a ≤ 600; omega
    · rw [zb_zP]; exact h4
  obtain ⟨hw1, hw2⟩ := zch_W ht hkt
  have hWt : zWz t ≤ 2398 := by unfold zWz; omega
  -- the things to be laid down, in the numbers as they are
  have src : ∀ {s1 : MS} {x : Th} {r : Nat}, mfL to s s1 → rmT (fun i => s.2.2.1 104 (o + i)) B true x r 0 → rmT (fun i => s1.2.2.1 104 (o + i)) B true x r 0 := by
    intro s1 x r hf hr
    exact (rmT_monoR (fun a ha hr => hf.2.2.2.1 (o + a) (hdis a ha hr)) x).1 r 0 hr
  have main : ∀ n q (Ts : List Th) (S : Nat → Nat) (s1 : MS), 600 ≤ q + n → q ≤ Ts.length → LyQ o B to s Ts S s1 → (∀ k, k < q → LyD (fun i => s1.2.2.1 104 (to + i)) Ts k) → 0 < Ts.length → Ts.getD 0 (zI 0) = t → (Ts.map znb).sum + ((Ts.drop q).map chW).sum ≤ 2400 → Ts.length + ((Ts.drop q).map chC).sum ≤ 600 → ExM l E w (d + 3) MX10_lay 63 [some (.ref w.1), none, none, none, some (.int (nI Ts.length)), some (.int (nI (to + (Ts.map znb).sum))), some (.int (nI q)), none, none, none, none, none] [] s1 Q := by
    intro n
    induction n with
    | zero =>
      intro q Ts S s1 hn hq hLQ hLD h0 ht0 hs1 hs2
      have hql : q = Ts.length := by omega
      subst hql
      refine vX10_lay_63 (pk_le Ts.length Ts.length (fun _ => hQ s1 hLQ.1 ?_) (fun c => by omega) rfl rfl)
      have := lay_rep (B := 2410) hLQ.2.2 hLD (by omega) (by omega) Ts.length 0 (by omega) h0
      rw [ht0] at this
      exact this
    | succ n ihn =>
      intro q Ts S s1 hn hq hLQ hLD h0 ht0 hs1 hs2
      by_cases hql : q = Ts.length
      · subst hql
        refine vX10_lay_63 (pk_le Ts.length Ts.length (fun _ => hQ s1 hLQ.1 ?_) (fun c => by omega) rfl rfl)
        have := lay_rep (B := 2410) hLQ.2.2 hLD (by omega) (by omega) Ts.length 0 (by omega) h0
        rw [ht0] at this
        exact this
      have hqlt : q < Ts.length := by omega
      obtain ⟨g1, g2, g3⟩ := hLQ.2.1 q hqlt
      obtain ⟨wx, kx⟩ := hLQ.2.2 _ (getD_mem (zI 0) hqlt)
      have hsz := zD_succ hqlt
      have hle : zD Ts (q + 1) ≤ (Ts.map znb).sum := by rw [← zD_all]; exact zD_mono (by omega)
      have hdr : Ts.drop q = Ts.getD q (zI 0) :: Ts.drop (q + 1) := by
        rw [getD_lt _ hqlt]; exact List.drop_eq_getElem_cons hqlt
      have hxq : Ts.getD q (zI 0) = Ts.getD q (zI 0) := rfl
      generalize hx : Ts.getD q (zI 0) = x at g3 wx kx hsz hdr
      have hrep := src hLQ.1 g3
      have hrg := rmT_rg g3
      have hhd := rmT_head hrep
      have hh1 : s1.2.2.1 104 (o + S q) = nI (zk x) := hhd.2.1
      have hh2 : s1.2.2.1 104 (o + S q + 1) = nI (zn x) := hhd.2.2.1
      have hnx : 2 + zn x ≤ znb x := by unfold znb; split <;> omega
      refine vX10_lay_63 (pk_le Ts.length q (fun c => by omega) (fun _ => ⟨inB_n (by omega), fun y1 ey1 => ⟨inB_n (by omega), fun y2 ey2 => ?_⟩⟩) rfl rfl)
      rw [nI_clamp (by omega)] at ey1 ey2
      rw [g1] at ey1
      rw [g2] at ey2
      subst ey1 ey2
      refine M_numbersOf hst hh1 hh2 (by omega) ⟨_, rfl, ?_⟩
      -- the parts
      have parts : ∀ m i (Ts3 : List Th) (S3 : Nat → Nat) (s3 : MS) (U : List Th), i + m = zn x → Ts3 = Ts ++ U → LyQ o B to s Ts3 S3 s3 → (∀ k, k < q → LyD (fun i => s3.2.2.1 104 (to + i)) Ts3 k) → LyH (fun i => s3.2.2.1 104 (to + i)) Ts3 q x → LyP (fun i => s3.2.2.1 104 (to + i)) Ts3 q x i → (Ts3.map znb).sum + ((Ts3.drop (q + 1)).map chW).sum + ((((ze x).drop i).filter (fun t => !(zk t == 0))).map zWz).sum ≤ 2400 → Ts3.length + ((Ts3.drop (q + 1)).map chC).sum + ((((ze x).drop i).filter (fun t => !(zk t == 0))).map zb).sum ≤ 600 → ExM l E w (d + 3) MX10_lay 135 [some (.ref w.1), none, none, none, some (.int (nI Ts3.length)), some (.int (nI (to + (Ts3.map znb).sum))), some (.int (nI q)), some (.int (nI (o + S q))), some (.int (nI (to + zD Ts q))), none, some (.int (nI i)), none] [] s3 Q := by
        intro m
        induction m with
        | zero =>
          intro i Ts3 S3 s3 U him hU hLQ3 hLD3 hLH3 hLP3 hw hc
          have hi : i = zn x := him
          subst hi hU
          have hrep3 := src hLQ3.1 g3
          have hh3 : s3.2.2.1 104 (o + S q + 1) = nI (zn x) := (rmT_head hrep3).2.2.1
          refine vX10_lay_135 (M_sizeAt hst (by omega) hh3 ⟨_, rfl, pk_le (zn x) (zn x) (fun _ => ?_) (fun c => by omega) rfl rfl⟩)
          rw [nI_1]
          refine ihn (q + 1) (Ts ++ U) S3 s3 (by omega) (by rw [List.length_append]; omega) hLQ3 (fun k hk => ?_) (by rw [List.length_append]; omega) (by rw [getD_app1 _ _ h0]; exact ht0) (by omega) (by omega)
          by_cases e : k = q
          · subst e
            unfold LyD
            rw [getD_app1 _ _ hqlt, hx]
            exact ⟨hLH3, hLP3⟩
          · exact hLD3 k (by omega)
        | succ m ihm =>
          intro i Ts3 S3 s3 U him hU hLQ3 hLD3 hLH3 hLP3 hw hc
          subst hU
          have hi : i < zn x := by omega
          have hrep3 := src hLQ3.1 g3
          have hhd3 := rmT_head hrep3
          have hh3 : s3.2.2.1 104 (o + S q) = nI (zk x) := hhd3.2.1
          have hh4 : s3.2.2.1 104 (o + S q + 1) = nI (zn x) := hhd3.2.2.1
          have hq3 : q < (Ts ++ U).length := by rw [List.length_append]; omega
          have hx3 : (Ts ++ U).getD q (zI 0) = x := by rw [getD_app1 _ _ hqlt]; exact hx
          have hD3 : zD (Ts ++ U) q = zD Ts q := zD_app U hq
          have hze := ze_drop hi
          rw [hze] at hw hc
          have hS3 : zD (Ts ++ U) (Ts ++ U).length = ((Ts ++ U).map znb).sum := zD_all _
          have hle3 : zD Ts q + znb x ≤ ((Ts ++ U).map znb).sum := by
            rw [← hS3, ← hsz, ← zD_app U (show q + 1 ≤ Ts.length by omega)]
            exact zD_mono (by omega)
          -- one that lies elsewhere
          have kid : ∀ qc : Nat, ¬ zk x = 1 → ¬ zk (zel x i) = 0 → rmT (fun i => s.2.2.1 104 (o + i)) B true (zel x i) qc 0 → inB (nI (Ts ++ U).length) 700 ∧ inB (nI (to + zD Ts q + zpt x i)) 166300 ∧ EvM l E w (d + 2) MX10_numbersOf [.ref w.1, .int (nI (o + qc))] (sA (sA (sA s3 115 (Ts ++ U).length (nI (o + qc))) 116 (Ts ++ U).length (nI (to + ((Ts ++ U).map znb).sum))) 104 (to + zD Ts q + zpt x i) (nI (to + ((Ts ++ U).map znb).sum) - nI (to + zD Ts q))) (fun r s5 => ∃ v6 : Int32, r = some (.int v6) ∧ (∀ y7 : Int32, y7 = (nI (to + ((Ts ++ U).map znb).sum) + v6) → ExM l E w (d + 3) MX10_lay 135 [some (.ref w.1), none, none, none, some (.int (nI ((Ts ++ U).length + 1))), some (.int y7), some (.int (nI q)), some (.int (nI (o + S q))), some (.int (nI (to + zD Ts q))), none, some (.int (nI (i + 1))), none] [] s5 Q)) := by
            intro qc h1x hz hqc
            have hpt := zpt_lt kx h1x hi
            have wc := zw_zel wx i
            obtain ⟨cw1, cw2⟩ := zch_W wc hz
            rw [List.filter_cons_of_pos (by rw [beq_false_of_ne hz]; rfl), List.map_cons, List.sum_cons] at hw hc
            have hzbp := zb_pos (zel x i)
            refine ⟨inB_n (by omega), inB_n (by omega), ?_⟩
            generalize hn3 : (Ts ++ U).length = n3
            rw [hn3] at hc hq3
            generalize hs4 : sA (sA (sA s3 115 n3 (nI (o + qc))) 116 n3 (nI (to + ((Ts ++ U).map znb).sum))) 104 (to + zD Ts q + zpt x i) (nI (to + ((Ts ++ U).map znb).sum) - nI (to + zD Ts q)) = s4
            have hf4 : mfL to s s4 := by
              rw [← hs4]
              exact hLQ3.1.trans (((mfL.q to s3 (Or.inl rfl)).trans (mfL.q to _ (Or.inr rfl))).trans (mfL.w to _ (by omega) (by omega)))
            have m104 : ∀ a, s4.2.2.1 104 a = if a = to + zD Ts q + zpt x i then nI (to + ((Ts ++ U).map znb).sum) - nI (to + zD Ts q) else s3.2.2.1 104 a := fun a => by rw [← hs4]; exact sA3_104 s3 ..
            have m115 : ∀ a, s4.2.2.1 115 a = if a = n3 then nI (o + qc) else s3.2.2.1 115 a := fun a => by rw [← hs4]; exact sA3_115 s3 ..
            have m116 : ∀ a, s4.2.2.1 116 a = if a = n3 then nI (to + ((Ts ++ U).map znb).sum) else s3.2.2.1 116 a := fun a => by rw [← hs4]; exact sA3_116 s3 ..
            have hrc := src hf4 hqc
            have hrgc := rmT_rg hqc
            have hhc := rmT_head hrc
            have hnbc : 2 + zn (zel x i) ≤ znb (zel x i) := by unfold znb; split <;> omega
            refine M_numbersOf hst (x := zel x i) hhc.2.1 hhc.2.2.1 (by omega) ⟨_, rfl, fun y7 ey7 => ?_⟩
            rw [nI_add] at ey7
            have hsum4 : ((Ts ++ (U ++ [zel x i])).map znb).sum = ((Ts ++ U).map znb).sum + znb (zel x i) := by
              rw [← List.append_assoc, List.map_append, List.sum_append]; rfl
            have hlen4 : (Ts ++ (U ++ [zel x i])).length = n3 + 1 := by rw [← List.append_assoc, List.length_append, hn3]; rfl
            have hT4 : Ts ++ (U ++ [zel x i]) = (Ts ++ U) ++ [zel x i] := (List.append_assoc ..).symm
            have hag : ∀ a, ¬ a = zD (Ts ++ U) q + zpt x i → (fun i => s4.2.2.1 104 (to + i)) a = (fun i => s3.2.2.1 104 (to + i)) a := by
              intro a ha
              show s4.2.2.1 104 (to + a) = _
              rw [m104, if_neg (by rw [hD3] at ha; omega)]
            have hdr4 : (Ts ++ (U ++ [zel x i])).drop (q + 1) = (Ts ++ U).drop (q + 1) ++ [zel x i] := by
              rw [hT4, List.drop_append_of_le_length (by rw [hn3]; omega)]
            have nx := ihm (i + 1) (Ts ++ (U ++ [zel x i])) (fun k => if k = n3 then qc else S3 k) s4 (U ++ [zel x i]) (by omega) rfl ⟨hf4, fun k hk => ?_, fun y hy => ?_⟩ (fun k hk => ?_) ?_ ?_ ?_ ?_
            · rw [hlen4, hsum4, ← Nat.add_assoc, ← ey7] at nx
              exact nx
            · rw [hlen4] at hk
              rw [m115, m116, hT4]
              dsimp only
              by_cases e : k = n3
              · rw [if_pos e, if_pos e, if_pos e, e, ← hn3, zD_app _ (Nat.le_refl _), hS3, getD_last]
                exact ⟨rfl, rfl, hqc⟩
              · have hk3 : k < (Ts ++ U).length := by omega
                rw [if_neg e, if_neg e, if_neg e, zD_app _ (Nat.le_of_lt hk3), getD_app1 _ _ hk3]
                exact hLQ3.2.1 k hk3
            · rw [hT4] at hy
              rcases List.mem_append.mp hy with hy | hy
              · exact hLQ3.2.2 y hy
              · rw [List.mem_singleton.mp hy]; exact ⟨wc, hz⟩
            · rw [hT4]
              have hk3 : k < (Ts ++ U).length := by omega
              refine LyD.app (hLQ3.2.2 _ (getD_mem _ hk3)).2 hk3 (fun a ha => hag a ?_) (hLD3 k hk)
              have := zD_mono (Ts := Ts ++ U) (show k + 1 ≤ q by omega)
              omega
            · rw [hT4]
              exact LyH.set h1x hz (by omega) hag hpt.1 hLH3
            · rw [hT4]
              refine LyP.set (by omega) hag ?_ hLP3
              show s4.2.2.1 104 (to + (zD (Ts ++ U) q + zpt x i)) = _
              rw [m104, hD3, if_pos (by omega), hS3, nI_shift]
            · have e1 : (((Ts ++ U).drop (q + 1) ++ [zel x i]).map chW).sum = (((Ts ++ U).drop (q + 1)).map chW).sum + chW (zel x i) := by rw [List.map_append, List.sum_append]; rfl
              have e2 : chW (zel x i) = ((zch (zel x i)).map zWz).sum := rfl
              rw [hsum4, hdr4, e1, e2]
              omega
            · have e1 : (((Ts ++ U).drop (q + 1) ++ [zel x i]).map chC).sum = (((Ts ++ U).drop (q + 1)).map chC).sum + chC (zel x i) := by rw [List.map_append, List.sum_append]; rfl
              have e2 : chC (zel x i) = ((zch (zel x i)).map zb).sum := rfl
              rw [hlen4, hdr4, e1, e2]
              omega
          have hkx := zk_le x
          refine vX10_lay_135 (M_sizeAt hst (by omega) hh4 ⟨_, rfl, pk_le (zn x) i (fun c => by omega) (fun _ => ⟨inB_n (by omega), ?_⟩) rfl rfl⟩)
          rw [nI_clamp (n := o + S q) (by omega), hh3, show nI i + 1 = nI (i + 1) from nI_add i 1, show nI (Ts ++ U).length + 1 = nI ((Ts ++ U).length + 1) from nI_add _ 1, show nI q + 1 = nI (q + 1) from nI_add q 1]
          have e3 : nI (to + zD Ts q) + (3 + (2 * nI i)) = nI (to + zD Ts q + (3 + 2 * i)) := by rw [nI_m2, show (3 : Int32) + nI (2 * i) = nI (3 + 2 * i) from nI_add 3 (2 * i), nI_add]
          have e2 : nI (to + zD Ts q) + (2 + nI i) = nI (to + zD Ts q + (2 + i)) := by rw [nI_2l, nI_add]
          rw [e3, e2]
          have hin : inB (nI (o + S q)) 166300 := inB_n (by omega)
          rcases zk_c x with k0 | k1 | k2 | k3
          · exact absurd k0 kx
          · refine ⟨fun _ => ?_, fun c => absurd (by rw [k1]; rfl) c⟩
            refine ihn (q + 1) (Ts ++ U) S3 s3 (by omega) (by omega) hLQ3 (fun k hk => ?_) (by omega) (by rw [getD_app1 _ _ h0]; exact ht0) (by omega) (by omega)
            by_cases e : k = q
            · subst e
              unfold LyD
              rw [hx3]
              exact ⟨hLH3, fun i' _ hz => absurd (zel_int k1) hz⟩
            · exact hLD3 k (by omega)
          · obtain ⟨t1, qc, t2, t3, t4⟩ := rmT_tabAt k2 g3 hi
            obtain ⟨t1', qc', t2', t3', t4'⟩ := rmT_tabAt k2 hrep3 hi
            have hzk : ¬ zk (zel x i) = 0 := by omega
            have hcell : s3.2.2.1 104 (o + S q + 2 + i) = nI (o + qc) - nI (o + S q) := by
              rw [nI_shift, ← t2, show o + S q + 2 + i = o + (S q + 2 + i) by omega]
              exact hLQ3.1.2.2.2.1 _ (hdis _ (by omega) (by omega))
            obtain ⟨u1, u2, u3⟩ := kid qc (by omega) hzk t3
            have ept : zpt x i = 2 + i := by unfold zpt; rw [if_pos k2]
            rw [ept] at u2 u3
            refine ⟨fun c => absurd c (by rw [k2]; decide), fun _ => ⟨hin, fun _ => ?_, fun c => absurd c (by rw [k2]; decide)⟩⟩
            refine M_partT hst (by rw [hh3, k2]; rfl) (by omega) hcell ⟨_, rfl, u1, u1, hin, ?_⟩
            rw [hh3, k2, nI_clamp (n := (Ts ++ U).length) (by omega), nI_clamp (n := to + zD Ts q + (2 + i)) (by omega)]
            exact ⟨fun c => absurd rfl c, fun _ => ⟨u2, u3⟩⟩
          · obtain ⟨t1, t2⟩ := rmT_packAt k3 g3 hi
            have hce : ∀ j, j < 2 + 2 * zn x → s3.2.2.1 104 (o + S q + j) = s.2.2.1 104 (o + (S q + j)) := fun j hj => by
              have hz3 : znb x = 2 + 2 * zn x := by unfold znb; rw [if_pos k3]
              rw [show o + S q + j = o + (S q + j) by omega]
              exact hLQ3.1.2.2.2.1 _ (hdis _ (by omega) (by omega))
            refine ⟨fun c => absurd c (by rw [k3]; decide), fun _ => ⟨hin, fun c => absurd (by rw [k3]; rfl) c, fun _ => ?_⟩⟩
            have ef := hce (2 + 2 * i) (by omega)
            rw [show o + S q + (2 + 2 * i) = o + S q + 2 + 2 * i by omega, show S q + (2 + 2 * i) = S q + 2 + 2 * i by omega] at ef
            rcases t2 with ⟨a1, a2, a3⟩ | ⟨a1, a2, qc, a3, a4⟩
            · rw [a2] at ef
              refine M_isInt hst (by omega) (fun _ => ⟨_, rfl, fun c => absurd c (by decide), fun _ => ?_⟩) (fun c => absurd ef c)
              rw [List.filter_cons_of_neg (by rw [a1]; decide)] at hw hc
              exact ihm (i + 1) (Ts ++ U) S3 s3 U (by omega) rfl hLQ3 hLD3 hLH3 (fun i' hi' hz => hLP3 i' (by
                by_cases e : i' = i
                · rw [e] at hz; exact absurd a1 hz
                · omega) hz) hw hc
            · rw [a2] at ef
              obtain ⟨u1, u2, u3⟩ := kid qc (by omega) a1 a4
              have ept : zpt x i = 3 + 2 * i := by unfold zpt; rw [if_neg (by omega)]
              rw [ept] at u2 u3
              have hcell : s3.2.2.1 104 (o + S q + 3 + 2 * i) = nI (o + qc) - nI (o + S q) := by
                rw [nI_shift, ← a3, show o + S q + 3 + 2 * i = o + S q + (3 + 2 * i) by omega, show S q + 3 + 2 * i = S q + (3 + 2 * i) by omega]
                exact hce (3 + 2 * i) (by omega)
              refine M_isInt hst (by omega) (fun c => absurd (ef.symm.trans c) (by decide)) (fun _ => ⟨_, rfl, fun _ => ?_, fun c => absurd rfl c⟩)
              refine M_partP hst (by rw [hh3, k3]; rfl) (by omega) hcell ⟨_, rfl, u1, u1, hin, ?_⟩
              rw [hh3, k3, nI_clamp (n := (Ts ++ U).length) (by omega), nI_clamp (n := to + zD Ts q + (3 + 2 * i)) (by omega)]
              exact ⟨fun _ => ⟨u2, u3⟩, fun c => absurd c (by decide)⟩
      -- its numbers
      have copy : ∀ m i (s2 : MS), i + m = znb x → mfL to s s2 → (∀ j, ¬ j = 104 → s2.2.2.1 j = s1.2.2.1 j) → (∀ a, (a < to + zD Ts q ∨ to + zD Ts q + i ≤ a) → s2.2.2.1 104 a = s1.2.2.1 104 a) → (∀ j, j < i → s2.2.2.1 104 (to + zD Ts q + j) = s1.2.2.1 104 (o + S q + j)) → ExM l E w (d + 3) MX10_lay 99 [some (.ref w.1), none, none, none, some (.int (nI Ts.length)), some (.int (nI (to + (Ts.map znb).sum))), some (.int (nI q)), some (.int (nI (o + S q))), some (.int (nI (to + zD Ts q))), some (.int (nI (znb x))), some (.int (nI i)), none] [] s2 Q := by
        intro m
        induction m with
        | zero =>
          intro i s2 him hf2 hj2 ha2 hc2
          have hi : i = znb x := him
          subst hi
          refine vX10_lay_99 (pk_le (znb x) (znb x) (fun _ => ?_) (fun c => by omega) rfl rfl)
          have e0 : (ze x).drop 0 = ze x := List.drop_zero
          refine parts (zn x) 0 Ts S s2 [] (by omega) (List.append_nil Ts).symm ⟨hf2, fun k hk => ?_, hLQ.2.2⟩ (fun k hk => ?_) ?_ (fun i' hi' => absurd hi' (Nat.not_lt_zero _)) ?_ ?_
          · rw [hj2 115 (by decide), hj2 116 (by decide)]
            exact hLQ.2.1 k hk
          · have hkl : k < Ts.length := by omega
            have := LyD.app (R := []) (hm' := fun i => s2.2.2.1 104 (to + i)) (hLQ.2.2 _ (getD_mem _ hkl)).2 hkl (fun a ha => ha2 (to + a) (by have := zD_mono (Ts := Ts) (show k + 1 ≤ q by omega); omega)) (hLD k hk)
            rw [List.append_nil] at this
            exact this
          · have hcell : ∀ j, j < znb x → s2.2.2.1 104 (to + (zD Ts q + j)) = s1.2.2.1 104 (o + (S q + j)) := fun j hj => by
              rw [← Nat.add_assoc, ← Nat.add_assoc]; exact hc2 j hj
            refine ⟨?_, ?_, fun c i hi => ?_, fun c i hi => ?_⟩
            · have := hcell 0 (by omega)
              exact this.trans hh1
            · exact (hcell 1 (by omega)).trans hh2
            · have := (rmT_rowAt c hrep hi).2.1
              show s2.2.2.1 104 (to + (zD Ts q + 2 + i)) = _
              rw [show zD Ts q + 2 + i = zD Ts q + (2 + i) by omega, hcell (2 + i) (by omega), show S q + (2 + i) = S q + 2 + i by omega]
              exact this
            · have hz3 : znb x = 2 + 2 * zn x := by unfold znb; rw [if_pos c]
              have h2 := (rmT_packAt c hrep hi).2
              show s2.2.2.1 104 (to + (zD Ts q + 2 + 2 * i)) = _ ∧ (_ → s2.2.2.1 104 (to + (zD Ts q + 3 + 2 * i)) = _)
              rw [show zD Ts q + 2 + 2 * i = zD Ts q + (2 + 2 * i) by omega, show zD Ts q + 3 + 2 * i = zD Ts q + (3 + 2 * i) by omega, hcell (2 + 2 * i) (by omega), hcell (3 + 2 * i) (by omega), show S q + (2 + 2 * i) = S q + 2 + 2 * i by omega, show S q + (3 + 2 * i) = S q + 3 + 2 * i by omega]
              rcases h2 with ⟨a1, a2, a3⟩ | ⟨a1, a2, _⟩
              · rw [if_pos a1]; exact ⟨a2, fun _ => a3⟩
              · rw [if_neg a1]; exact ⟨a2, fun c => absurd c a1⟩
          · rw [e0]
            rw [hdr, List.map_cons, List.sum_cons] at hs1
            have e1 : chW x = (((ze x).filter (fun t => !(zk t == 0))).map zWz).sum := rfl
            omega
          · rw [e0]
            rw [hdr, List.map_cons, List.sum_cons] at hs2
            have e1 : chC x = (((ze x).filter (fun t => !(zk t == 0))).map zb).sum := rfl
            omega
        | succ m ihm =>
          intro i s2 him hf2 hj2 ha2 hc2
          refine vX10_lay_99 (pk_le (znb x) i (fun c => by omega) (fun _ => ?_) rfl rfl)
          rw [nI_add, nI_add, nI_clamp (n := o + S q + i) (by omega), nI_clamp (n := to + zD Ts q + i) (by omega), nI_1]
          have hsd := hdis (S q + i) (by omega) (by omega)
          have hsv : s2.2.2.1 104 (o + S q + i) = s1.2.2.1 104 (o + S q + i) := by
            refine ha2 _ ?_
            omega
          refine ⟨inB_n (by omega), inB_n (by omega), ihm (i + 1) _ (by omega) (hf2.trans (mfL.w to s2 (by omega) (by omega))) (fun j hj => ?_) (fun a ha => ?_) (fun j hj => ?_)⟩
          · rw [← hj2 j hj]
            funext z
            exact sA_ne s2 _ (fun e => hj e.1)
          · rw [sA_ne s2 _ (fun e => by omega)]
            exact ha2 a (by omega)
          · show (if 104 = 104 ∧ to + zD Ts q + j = to + zD Ts q + i then s2.2.2.1 104 (o + S q + i) else s2.2.2.1 104 (to + zD Ts q + j)) = _
            by_cases e : j = i
            · rw [if_pos ⟨rfl, by omega⟩, e]; exact hsv
            · rw [if_neg (fun z => by omega)]; exact hc2 j (by omega)
      exact copy (znb x) 0 s1 (by omega) hLQ.1 (fun _ _ => rfl) (fun _ _ => rfl) (fun j hj => absurd hj (Nat.not_lt_zero _))
  have hh := rmT_head hsrc
  have hrg := rmT_rg hsrc
  have hnx : 2 + zn t ≤ znb t := by unfold znb; split <;> omega
  refine eX10_lay hst ⟨fun _ => ⟨fun _ => ?_, fun c => absurd c (by decide)⟩, fun c => absurd c (by decide)⟩
  refine M_numbersOf hst (x := t) hh.2.1 hh.2.2.1 (by omega) ⟨_, rfl, fun y3 ey3 => ?_⟩
  rw [nI_add] at ey3
  subst ey3
  refine ⟨inB_n (n := 0) (by decide), inB_n (n := 0) (by decide), ?_⟩
  have e0 : (0 : Int32).toNatClampNeg = 0 := by decide
  rw [e0]
  have := main 600 0 [t] (fun _ => p) (sA (sA s 115 0 (nI (o + p))) 116 0 (nI to)) (by omega) (Nat.zero_le _) ⟨(mfL.q to s (Or.inl rfl)).trans (mfL.q to _ (Or.inr rfl)), fun k hk => ?_, fun y hy => by rw [List.mem_singleton.mp hy]; exact ⟨ht, hkt⟩⟩ (fun k hk => absurd hk (Nat.not_lt_zero _)) (Nat.succ_pos _) rfl ?_ ?_
  · exact this
  · have hk0 : k = 0 := Nat.lt_one_iff.mp hk
    subst hk0
    exact ⟨rfl, rfl, hsrc⟩
  · show znb t + 0 + (((zch t).map zWz).sum + 0) ≤ 2400
    omega
  · show 1 + (((zch t).map zb).sum + 0) ≤ 600
    omega
end MLy
