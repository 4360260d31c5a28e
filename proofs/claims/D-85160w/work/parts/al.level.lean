/-! LEVELS, EXPRESSIONS -/
def Tch (s l : Int32) (od : Od) : Prop := ∃ sn, s = nI sn ∧ nI sn ∈ zSg ∧ od = (5, sn, 0, 0, l)
section LV
variable {l : Launch} {E : EN} {w : CO} {wm : MO} {dm d : Nat} {al : Int32} {ch : Nat → Nat} {n hf : Nat} {s0 : MS} {x0 nw na K0 lo pc p o ca cap c gm p1 o1 ca1 cap1 c1 p2 p3 o2 c2 K fl N q u u' r m k pl nm npl : Nat} {vs vs1 : List Nat} {O O1 O2 O3 : Nat → Od} {A A0 dA : List (Nat × Nat × Nat)} {B : List Tok} {dC : List CE} {X X1 X2 : List XE} {s s1 s2 s3 : CS} {f f1 f2 f3 : RH} {q1 q2 : Nat × Nat} {wg V cc e : Nat → Nat} {S L : Nat → Int32} {Q : KO → CS → RH → Prop}
theorem fin_cha {Rq : Nat × Nat → Tok → Prop} (h : pC l E w wm dm al ch n hf s0 x0 nw na f.1 p p o ca cap c vs O A B X s f 23 184 N q u r gm wg1 q1 p1 o ca1 cap1 c1 vs1 O1 dC dA X s1 f1 m V S L cc e) (hu : 1 ≤ u) (hmu : m ≤ u + 1) (hr : r ≤ u) (hC : CHN Tch (4000 * (1 - hf) + c1) m S L cc e O1) (v : ∃ z : Int32, vl f1 N 165 = .int z) (hq : Rq q1 (tk ch n p1)) : pOk l E w wm dm al ch n hf s0 x0 nw na p o ca cap c vs O A B X s f Rq (gm + 1) N s1 f1 := by
  have h' := h
  obtain ⟨h1, ⟨o2, n2, n3, w2, n5⟩, a1, a2, a3, capN, -, -, j5, j6, j7, j8, j9, j10⟩ := h
  have hpn := h1.1.2.2.1.2.1
  have hpp := h1.2.2.2.2.2.1
  obtain ⟨zz, v⟩ := v
  refine h1.ok hq ⟨by omega, 23, o2.1, by decide⟩ ?_ ⟨by omega, by omega, by omega, by omega⟩
  intro f' P F M nv' t1 t2 t3 t4 t5
  obtain ⟨⟨kn, ks, kl⟩, ⟨kc0, kcm⟩, kk⟩ := h'.kids (by omega) (Nat.le_refl f1.1) t1 t2 t3 t4 t5
  obtain ⟨hC1, hC2, hC3, hC4⟩ := hC
  have hS : ∀ k, k < m → S k = nI (if k = 0 then 0 else (O1 (e k)).2.1) := by
    intro k hk
    by_cases c0 : k = 0
    · rw [if_pos c0, c0, hC2]; rfl
    · obtain ⟨⟨sn, s1, s2, s3⟩, -⟩ := hC4 k (by omega) hk
      rw [if_neg c0, s3]; exact s1
  obtain ⟨rr, ks1, ks2, ks3, ks4, ks5⟩ := ks
  refine ⟨N, zz, rfl, by omega, by rw [t2.vl n3 n2 o2 (by decide)]; exact v, hN_1 _ _, Or.inr (Or.inr (Or.inr (Or.inl ⟨t2.oc n3 n2 o2, q, m, fun k => .ref (V k), fun k => if k = 0 then 0 else (O1 (e k)).2.1, L, cc, by rw [t2.vl n3 n2 o2 (by decide)]; exact w2, kn, ⟨rr, ks1, ks2, ks3, ks4, fun k hk => by rw [ks5 k hk, hS k hk]⟩, kl, hC3, ?_, fun k k1 k2 => ?_, kcm.symm⟩)))⟩
  · have := (kk 0 (by omega)).2
    rw [hC1, kc0] at this
    exact this
  · obtain ⟨y1, y2⟩ := kk k k2
    obtain ⟨⟨sn, x1, x1', x1''⟩, x2, x3⟩ := hC4 k k1 k2
    have ew : wg1 k = 1 := if_neg (by omega)
    rw [ew] at y1 y2
    have ep := (t3 (e k) (by omega) (by omega)).eq (by rw [x1'']; exact Nat.ne_of_beq_eq_false rfl) (by rw [x1'']; exact Nat.ne_of_beq_eq_false rfl)
    rw [x1''] at ep
    have en : (if k = 0 then 0 else (O1 (e k)).2.1) = sn := by rw [if_neg (by omega), x1'']
    exact ⟨e k, 0, hN p p1 - 1, 0, by omega, y2, by show nI (if k = 0 then 0 else (O1 (e k)).2.1) ∈ zSg; rw [en]; exact x1', by show P.1 (e k) = (5, (if k = 0 then 0 else (O1 (e k)).2.1), 0, 0, L k); rw [en]; exact ep, x2⟩
/-- the loop of a chain -/
theorem L_lev (hst : l.stackTraces = false) (hk : k ≤ 3) (hIH : ∀ p', p < p' → lvS l E w wm dm al ch n hf s0 x0 nw na K0 (k + 1) p') (hi : pIn E w ch n x0 nw na K0 p o ca cap c vs A B X s f) (hX : X.length ≤ 6 * o + k) (ht2 : ¬ topk X = 2) (hx : ∀ x X', X = x :: X' → x.1 = 1 → slv x.2.1 < k) (hal : al = 0 ∨ ¬ X = []) (hd : 20 * (10 - o) + 38 ≤ d + k)
    (hok : ∀ v s' f', pOk l E w wm dm al ch n hf s0 x0 nw na p o ca cap c vs O A B X s f (okL k) (7 * (10 - o) + 7 - k) v s' f' → Q (.inl (some (.ref v))) s' f') (hbad : ∀ s' f', pBad l E wm dm al ch n hf s0 K0 p o c vs O B X s s' f' → Q (.inr 1) s' f') :
    ∀ b p1 ca1 cap1 c1 vs1 O1 dC dA s1 f1 m V S L cc e kk, n - p1 ≤ b → pC l E w wm dm al ch n hf s0 x0 nw na f.1 p p o ca cap c vs O A B X s f 23 184 N q m m (7 * (10 - o) + 6 - k) wg1 (2, kk) p1 o ca1 cap1 c1 vs1 O1 dC dA X s1 f1 (m + 1) V S L cc e → p + 2 * m + 1 ≤ p1 → (if k = 1 then 2 else k) ≤ kk → lvT (tk ch n p1) = k → CHN Tch (4000 * (1 - hf) + c1) (m + 1) S L cc e O1 → (∃ z : Int32, vl f1 N 165 = .int z) → ExC l E w (d + 1) MX11_level 49 [some (.ref x0), some (.int (nI k)), none, some (.ref N), some (.int 1), none, none] [] s1 f1 Q := by
  intro b
  obtain ⟨d, rfl⟩ : ∃ d', d = d' + 6 := ⟨d - 6, by omega⟩
  have hA2 := hi.2.2.2.2.1.2.2.2
  have hX2 := hi.2.2.2.2.2.1
  have h12 := hi.2.2.2.2.1.1
  have hXc := hi.2.2.2.2.1.2.1
  have ho10 := hi.1.2.2.2.1
  have lv3 : ∀ p', lvT (tk ch n p') = k → (tk ch n p').1 = 3 ∧ sgV (tk ch n p').2.2.1 ∧ slv (tk ch n p').2.2.1 = k := by
    intro p' z
    unfold lvT at z
    split at z
    · rename_i h3
      exact ⟨h3, slv_V (by omega), z⟩
    · omega
  induction b with
  | zero =>
    intro p1 ca1 cap1 c1 vs1 O1 dC dA s1 f1 m V S L cc e kk hb h hp hkk hlv hC hv
    have hs := h.1.1.2
    have ht := hs.tk
    have h3 := lv3 p1 hlv
    have := ht.1.2.1
    have := ht.1.2.2.2.2
    have := ht.2.2.2.2 (by omega)
    omega
  | succ b ih =>
    intro p1 ca1 cap1 c1 vs1 O1 dC dA s1 f1 m V S L cc e kk hb h hp hkk hlv hC hv
    have hs := h.1.1.2
    have ht := hs.tk
    have hr := h.1.2.1.2.1
    have hkc := h.1.kc hi
    have hp1 := ht.1.2.1
    obtain ⟨h3, hsg, hsl⟩ := lv3 p1 hlv
    have hp2 := ht.2.2.2.2 (by omega)
    have hnum : c1 < 3850 ∧ c1 + X.length < 3890 ∧ (B ++ dC.map toB).length < 800 ∧ f1.2.1 ≤ K0 := by
      have hm := hi.nums
      have hcap1 := hr.2.2.2.2.2.2.2.2.2.1
      have hpn := hs.2.1.2.1
      have hK' := hi.2.2.2.2.2.2.1
      obtain ⟨h1, h2, a1, a2, a3, capN, h3, h4, h5, h6, h7, h8, h9, h10⟩ := h
      rw [List.length_append, List.length_map]
      have hpp := h1.2.2.2.2.2.1
      have hB := hi.2.2.2.2.1.2.2.1
      omega
    refine vR11_level_49 ⟨fun z => absurd z (by decide), fun _ => ⟨hr.1.1, hr.1.2.1, fun y21 ey21 => ⟨hr.1.1, hr.1.2.1, fun y22 ey22 => ⟨hr.1.1, hr.1.2.1, ?_⟩⟩⟩⟩
    rw [hs.2.1.1.2.2.2 (Or.inr h3)] at ey21
    rw [hs.2.1.1.2.1] at ey22
    subst ey21
    subst ey22
    have xs := XF_sign (l := l) (E := E) (w := wm) (d := dm) (al := al) (hf := hf) (s0 := s0) (o := o) (vs := vs1) (O := O1) (c := c1) (B := B ++ dC.map toB) (X := X) (k := kk) hst h3 hsg (by rw [hsl]; exact hkk) (fun x X' ex z => by rw [hsl]; exact hx x X' ex z) ht2 hal (by omega) (by omega)
    refine C_nextS hst hs hkc.1.1 (fun s' y4 hF => hbad s' f1 (h.1.flt hF (by omega) (by decide) (xs.bad (XB_bad0 hst y4 (by rw [List.length_cons]; omega) (by omega))))) (fun s2 hcf2 hs2 => ⟨rfl, h.2.1.1, q, h.2.1.2.2.2.1, hr.1.1, ?_⟩)
    have k0 := h.tok (u' := 1) hcf2 hs2 xs (by omega) (by omega)
    have I0 := k0.inn hi (by omega) (by omega) (by omega) (by omega) (Nat.zero_le _)
    rw [← nI_succ]
    refine hIH _ (by omega) o ca1 cap1 c1 vs1 O1 (A ++ dA) (B ++ dC.map toB) _ s2 f1 (d + 6) _ I0 (by rw [List.length_cons]; omega) (fun z => (by cases z)) (fun x X' ex _ => by injection ex with e1 e2; rw [← e1]; show slv (tk ch n p1).2.2.1 < k + 1; omega) (Or.inr (fun z => (by cases z))) (by omega) (fun v s3 f2 kq => ⟨v, rfl, ?_⟩) (fun s' f' kq => hbad s' f' (k0.1.bad kq))
    have kq' := kq.mono (gm' := 7 * (10 - o) + 6 - k) (by omega)
    refine k0.kid (d := d + 5) (sg := nI (tk ch n p1).2.2.1) (pl := nI (tk ch n p1).2.1) hst hi (by have : wg1 (m + 1) = 1 := if_neg (by omega); omega) (by omega) (by omega) (by omega) kq' (fun f3 p2 vs2 O2 c2 dC2 dA2 ca2 cap2 q2 k1 k2 k3 k4 k5 => ⟨rfl, ?_⟩)
    have cN := (cellE k3).2.2
    have hv3 : ∃ z : Int32, vl f3 N 165 = .int z := by rw [cN]; exact hv
    have hr3 := k1.1.2.1.2.1
    have hs3 := k1.1.1.2
    have od : odY (1, (tk ch n p1).2.2.1, 0, (tk ch n p1).2.1, 0, 0) = (5, (tk ch n p1).2.2.1, 0, 0, nI (tk ch n p1).2.1) := if_neg (Nat.ne_of_beq_eq_false rfl)
    have hT : Tch (nI (tk ch n p1).2.2.1) (nI (tk ch n p1).2.1) (5, (tk ch n p1).2.2.1, 0, 0, nI (tk ch n p1).2.1) := ⟨_, rfl, (sgV_slv hsg).2.2.1, rfl⟩
    have hC' := hC.up (b2 := 4000 * (1 - hf) + c2) (od := (5, (tk ch n p1).2.2.1, 0, 0, nI (tk ch n p1).2.1)) k4 (Nat.add_le_add_left k5.2 _) hT
    have hgm : 7 * (10 - o) + 6 - k + 1 = 7 * (10 - o) + 7 - k := by omega
    obtain ⟨k2a, k2b⟩ := k2
    -- the end of the chain
    have fin : ∀ q3, okL k q3 (tk ch n p2) → XF l E wm dm al ch n hf s0 q2 ((p2, o), vs2, O2, c2, B ++ (dC ++ dC2).map toB, (1, (tk ch n p1).2.2.1, 0, (tk ch n p1).2.1, 0, 0) :: X) q3 ((p2, o), vs2, oup O2 (4000 * (1 - hf) + c2) (5, (tk ch n p1).2.2.1, 0, 0, nI (tk ch n p1).2.1), c2 + 1, B ++ (dC ++ dC2).map toB, X) → Q (.inl (some (.ref N))) s3 f3 := by
      intro q3 hq3 hxx
      have k6 := k1.ord hxx (by omega)
      have := fin_cha (Rq := okL k) k6 (by omega) (by omega) (by omega) hC' hv3 hq3
      rw [hgm] at this
      exact hok N s3 f3 this
    by_cases c1k : k = 1
    · subst c1k
      refine ⟨fun _ => vR11_level_49 ⟨fun _ => ?_, fun z => absurd rfl z⟩, fun z => absurd rfl z⟩
      rcases k2a with ⟨q22, l2⟩ | ⟨zz, -⟩
      · subst q22
        by_cases cl1 : lvT (tk ch n p2) = 1
        · refine fin (3, 1) ⟨Or.inr ⟨by omega, rfl, cl1⟩, k2b⟩ ?_
          have := XF_cmp (l := l) (E := E) (w := wm) (d := dm) (al := al) (ch := ch) (n := n) (hf := hf) (s0 := s0) (p := p2) (o := o) (vs := vs2) (O := O2) (c := c2) (B := B ++ (dC ++ dC2).map toB) (X := X) (x := (1, (tk ch n p1).2.2.1, 0, (tk ch n p1).2.1, 0, 0)) rfl hsl
          rw [od] at this
          exact this
        · refine fin (2, 1) ⟨Or.inl ⟨rfl, by omega⟩, k2b⟩ ?_
          have := XF_two (l := l) (E := E) (w := wm) (d := dm) (al := al) (ch := ch) (n := n) (hf := hf) (s0 := s0) (p := p2) (o := o) (vs := vs2) (O := O2) (c := c2) (B := B ++ (dC ++ dC2).map toB) (X := X) (x := (1, (tk ch n p1).2.2.1, 0, (tk ch n p1).2.1, 0, 0)) rfl hsl
          rw [od] at this
          exact this
      · omega
    · refine bn_eq k 1 (fun _ => ?_) (fun z => absurd z c1k) rfl rfl |>.symm
      refine ⟨hr3.1.1, R_isOf hst hs3 hr3.1.1 hr3.1.2.1 hk ⟨_, rfl, pk_b (fun z => ?_) (fun z => ?_)⟩⟩
      · refine vR11_level_49 ⟨fun _ => ?_, fun z => absurd rfl z⟩
        rcases k2a with ⟨q22, l2⟩ | ⟨zz, q22, l2⟩
        · subst q22
          refine fin (2, k) ⟨Or.inl ⟨rfl, by omega⟩, k2b⟩ ?_
          have := XF_two (l := l) (E := E) (w := wm) (d := dm) (al := al) (ch := ch) (n := n) (hf := hf) (s0 := s0) (p := p2) (o := o) (vs := vs2) (O := O2) (c := c2) (B := B ++ (dC ++ dC2).map toB) (X := X) (x := (1, (tk ch n p1).2.2.1, 0, (tk ch n p1).2.1, 0, 0)) rfl hsl
          rw [od] at this
          exact this
        · have k00 : k = 0 := by omega
          subst k00
          subst q22
          refine fin (3, 0) ⟨Or.inr ⟨by omega, rfl, l2⟩, k2b⟩ ?_
          have := XF_cmp0 (l := l) (E := E) (w := wm) (d := dm) (al := al) (ch := ch) (n := n) (hf := hf) (s0 := s0) (p := p2) (o := o) (vs := vs2) (O := O2) (c := c2) (B := B ++ (dC ++ dC2).map toB) (X := X) (x := (1, (tk ch n p1).2.2.1, 0, (tk ch n p1).2.1, 0, 0)) rfl
          rw [od] at this
          exact this
      · rcases k2a with ⟨q22, l2⟩ | ⟨zz, q22, l2⟩
        · subst q22
          have := XF_two (l := l) (E := E) (w := wm) (d := dm) (al := al) (ch := ch) (n := n) (hf := hf) (s0 := s0) (p := p2) (o := o) (vs := vs2) (O := O2) (c := c2) (B := B ++ (dC ++ dC2).map toB) (X := X) (x := (1, (tk ch n p1).2.2.1, 0, (tk ch n p1).2.1, 0, 0)) rfl hsl
          rw [od] at this
          have k6 := k1.ord this (by omega)
          exact ih _ _ _ _ _ _ _ _ _ _ (m + 1) _ _ _ _ _ k (by have := hs3.2.1.2.1; omega) k6 (by omega) (by rw [if_neg c1k]; exact Nat.le_refl _) z hC' hv3
        · omega
/-- a level -/
theorem R_lev (hst : l.stackTraces = false) (hk : k ≤ 3) (hIH : ∀ p', p < p' → lvS l E w wm dm al ch n hf s0 x0 nw na K0 (k + 1) p') (h0 : lvS l E w wm dm al ch n hf s0 x0 nw na K0 (k + 1) p) : lvS l E w wm dm al ch n hf s0 x0 nw na K0 k p := by
  intro o ca cap c vs O A B X s f d Q h hX ht2 hx hal hd hok hbad
  have hr := h.2.2.1
  have hm := h.nums
  have hX1 := h.2.2.2.2.1
  have hfb := h.2.2.2.1
  have hK' := h.2.2.2.2.2.2.1
  have hK := h.2.2.2.2.2.2.2
  obtain ⟨d, rfl⟩ : ∃ d', d = d' + 2 + 1 := ⟨d - 3, by omega⟩
  have M0 := pM.init (l := l) (wm := wm) (dm := dm) (al := al) (hf := hf) (s0 := s0) (O := O) h
  refine eR11_level hst (bn_eq k 4 (fun _ => ⟨hr.1.1, ?_⟩) (fun z => by omega) rfl rfl)
  rw [← nI_succ]
  refine h0 o ca cap c vs O A B X s f (d + 2) _ h (by omega) ht2 (fun x X' ex z => by have := hx x X' ex z; omega) hal (by omega) (fun v s1 f1 kq => ⟨v, rfl, ?_⟩) hbad
  have kB : B ++ ([] : List CE).map toB = B := by rw [List.map_nil, List.append_nil]
  have kA : A ++ [] = A := List.append_nil A
  rw [← kB, ← kA] at kq
  obtain ⟨p1, vs1, O1, c1, dC, dA, ca1, cap1, q1, M1, ⟨k2, k2'⟩, ⟨k3, k4, k5, k5', k6⟩, ⟨k7, k8, k9, k10, k11, k12⟩⟩ := M0.sub kq
  have hs1 := M1.1.2
  have hr1 := M1.2.1.2.1
  have ht1 := hs1.tk
  have hp1 := hs1.2.1.2.1
  have hl1 := k3.1
  have hcap1 := hr1.2.2.2.2.2.2.2.2.2.1
  refine ⟨hr1.1.1, R_isOf hst hs1 hr1.1.1 hr1.1.2.1 hk ⟨_, rfl, bn_b (fun z => hok v s1 f1 ?_) (fun z => ⟨by unfold rmF; omega, fun N f2 eN e2 => ?_⟩)⟩⟩
  · rcases k2 with ⟨q22, l2⟩ | ⟨zz, q22, l2⟩
    · subst q22
      exact (M1.xf (XF_lower (k' := k) (by omega)) (fun _ _ => rfl) (Nat.le_refl _)).ok (Rq := okL k) ⟨Or.inl ⟨rfl, by omega⟩, k2'⟩ k4 (k6.mono (by omega) (Nat.le_refl _)) ⟨k7, k9, k10, k12⟩
    · have k00 : k = 0 := by omega
      subst k00
      subst q22
      exact (M1.xf XF_cmpL (fun _ _ => rfl) (Nat.le_refl _)).ok (Rq := okL 0) ⟨Or.inr ⟨by omega, rfl, l2⟩, k2'⟩ k4 (k6.mono (by omega) (Nat.le_refl _)) ⟨k7, k9, k10, k12⟩
  have q22 : q1 = (2, k + 1) := by
    rcases k2 with ⟨q22, l2⟩ | ⟨zz, q22, l2⟩
    · exact q22
    · omega
  subst q22
  subst eN
  have g2 : gE [] f1 f2 := by rw [e2]; exact gE.new _ _
  have o2 : oc f2 f1.1 23 := by rw [e2]; exact oc_new _ _
  have z2 : f2.1 = f1.1 + 1 ∧ f2.2.1 = f1.2.1 + 3 := by rw [e2]; exact ⟨rfl, rfl⟩
  have n2 : vl f2 f1.1 165 = .int 0 := by rw [e2]; exact vl_new _ _ _
  have hfb1 : f1.2.2.2 ≤ f1.1 := (M1.kc h).2
  refine I_cha (lo := f1.1) hst o2 (by omega) (by rw [g2.2.1]; exact hfb1) (by omega) (by omega) (fun f3 q a1 a2 a3 hn g3 o3 v3 w3 z3 => ⟨rfl, o3, q, v3, ?_⟩)
  have hl3 := g3.1
  have g13 : gE [] f1 f3 := g2.own g3 (Nat.le_refl _)
  refine pC.first (d := d + 1) (gm := 7 * (10 - o) + 6 - k) hst M1 h k4 (k6.mono (by omega) (Nat.le_refl _)) g13 ⟨o3, by omega, Nat.le_refl _, v3, by decide⟩ hn (wg := wg1) rfl ⟨by omega, k9, k10⟩ (fun f4 C1 e4 => ⟨rfl, ?_⟩)
  exact L_lev (d := d + 2) hst hk hIH h hX ht2 hx hal (by omega) hok hbad (n - p1) _ _ _ _ _ _ _ _ _ _ 0 _ _ _ _ _ (k + 1) (Nat.le_refl _) C1 (by omega) (by split <;> omega) z ⟨rfl, rfl, Nat.le_refl _, fun k k1 k2 => by omega⟩ ⟨0, by rw [(cellE e4).2.2]; exact (w3 165 (by decide)).trans n2⟩
/-- all of it -/
theorem all_ex (hst : l.stackTraces = false) : ∀ b p, n - p ≤ b → (aS l E w wm dm al ch n hf s0 x0 nw na K0 p ∧ plS l E w wm dm al ch n hf s0 x0 nw na K0 p ∧ ∀ k, k ≤ 4 → lvS l E w wm dm al ch n hf s0 x0 nw na K0 k p) ∨ n < p := by
  intro b
  induction b with
  | zero =>
    intro p hb
    by_cases c0 : n < p
    · exact Or.inr c0
    · left
      have hN : ∀ p', p < p' → xSp l E w wm dm al ch n hf s0 x0 nw na K0 p' := fun p' hp o ca cap c vs O A B X s f d Q h => by have := h.nums.1; omega
      have hP : ∀ p', p < p' → plS l E w wm dm al ch n hf s0 x0 nw na K0 p' := fun p' hp o ca cap c vs O A B X s f d Q h => by have := h.nums.1; omega
      have hL : ∀ k p', p < p' → lvS l E w wm dm al ch n hf s0 x0 nw na K0 k p' := fun k p' hp o ca cap c vs O A B X s f d Q h => by have := h.nums.1; omega
      have a := R_atom hst hN
      have b := R_places hst hN a
      have l4 := R_pre hst hP b
      have l3 := R_lev (k := 3) hst (by omega) (hL 4) l4
      have l2 := R_lev (k := 2) hst (by omega) (hL 3) l3
      have l1 := R_lev (k := 1) hst (by omega) (hL 2) l2
      have l0 := R_lev (k := 0) hst (by omega) (hL 1) l1
      refine ⟨a, b, fun k hk => ?_⟩
      rcases (show k = 0 ∨ k = 1 ∨ k = 2 ∨ k = 3 ∨ k = 4 by omega) with rfl | rfl | rfl | rfl | rfl <;> assumption
  | succ b ih =>
    intro p hb
    left
    have ih' : ∀ p', p < p' → (aS l E w wm dm al ch n hf s0 x0 nw na K0 p' ∧ plS l E w wm dm al ch n hf s0 x0 nw na K0 p' ∧ ∀ k, k ≤ 4 → lvS l E w wm dm al ch n hf s0 x0 nw na K0 k p') := fun p' hp => by
      rcases ih p' (by omega) with z | z
      · exact z
      · exact ⟨fun o ca cap c vs O A B X s f d Q h => by have := h.nums.1; omega, fun o ca cap c vs O A B X s f d Q h => by have := h.nums.1; omega, fun k _ o ca cap c vs O A B X s f d Q h => by have := h.nums.1; omega⟩
    have hN : ∀ p', p < p' → xSp l E w wm dm al ch n hf s0 x0 nw na K0 p' := fun p' hp => ((ih' p' hp).2.2 0 (by omega)).ex hst
    have hP : ∀ p', p < p' → plS l E w wm dm al ch n hf s0 x0 nw na K0 p' := fun p' hp => (ih' p' hp).2.1
    have a := R_atom hst hN
    have b := R_places hst hN a
    have l4 := R_pre hst hP b
    have l3 := R_lev (k := 3) hst (by omega) (fun p' hp => (ih' p' hp).2.2 4 (by omega)) l4
    have l2 := R_lev (k := 2) hst (by omega) (fun p' hp => (ih' p' hp).2.2 3 (by omega)) l3
    have l1 := R_lev (k := 1) hst (by omega) (fun p' hp => (ih' p' hp).2.2 2 (by omega)) l2
    have l0 := R_lev (k := 0) hst (by omega) (fun p' hp => (ih' p' hp).2.2 1 (by omega)) l1
    refine ⟨a, b, fun k hk => ?_⟩
    rcases (show k = 0 ∨ k = 1 ∨ k = 2 ∨ k = 3 ∨ k = 4 by omega) with rfl | rfl | rfl | rfl | rfl <;> assumption
/-- EXPRESSION -/
theorem R_expr (hst : l.stackTraces = false) (p : Nat) : xSp l E w wm dm al ch n hf s0 x0 nw na K0 p := by
  rcases all_ex (l := l) (E := E) (w := w) (wm := wm) (dm := dm) (al := al) (ch := ch) (n := n) (hf := hf) (s0 := s0) (x0 := x0) (nw := nw) (na := na) (K0 := K0) hst (n - p) p (Nat.le_refl _) with z | z
  · exact (z.2.2 0 (by omega)).ex hst
  · intro o ca cap c vs O A B X s f d Q h
    have := h.nums.1
    omega
end LV
