/-! PLACES, PREFIX -/
/-- the kids of a chain or of places, but the first: each with its order behind it -/
def CHN (T : Int32 → Int32 → Od → Prop) (b m : Nat) (S L : Nat → Int32) (cc e : Nat → Nat) (O : Nat → Od) : Prop := e 0 = cc 1 ∧ S 0 = 0 ∧ 1 ≤ m ∧ ∀ k, 1 ≤ k → k < m → T (S k) (L k) (O (e k)) ∧ cc (k + 1) = e k + 1 ∧ e k + 1 ≤ b
theorem CHN.up {T : Int32 → Int32 → Od → Prop} {b m b2 : Nat} {S L : Nat → Int32} {cc e : Nat → Nat} {O O2 : Nat → Od} {od : Od} {sg pl : Int32} (h : CHN T b m S L cc e O) (hO : ∀ i, i < b → O2 i = O i) (hb : b ≤ b2) (ht : T sg pl od) : CHN T (b2 + 1) (m + 1) (up S m sg) (up L m pl) (up (up cc (m + 1) b2) (m + 1) (b2 + 1)) (up e m b2) (oup O2 b2 od) := by
  obtain ⟨h1, h2, h3, h4⟩ := h
  refine ⟨by rw [up_ne _ _ (by omega), up_ne _ _ (by omega), up_ne _ _ (by omega)]; exact h1, by rw [up_ne _ _ (by omega)]; exact h2, by omega, fun k k1 k2 => ?_⟩
  by_cases ek : k = m
  · subst ek
    rw [up_at, up_at, up_at, up_at, oup_at]
    exact ⟨ht, rfl, Nat.le_refl _⟩
  · obtain ⟨q1, q2, q3⟩ := h4 k k1 (by omega)
    rw [up_ne S _ ek, up_ne L _ ek, up_ne e _ ek, up_ne _ _ (by omega : ¬ k + 1 = m + 1), up_ne _ _ (by omega : ¬ k + 1 = m + 1), oup_ne _ _ (by omega), hO _ (by omega)]
    exact ⟨q1, q2, by omega⟩
def wg1 (k : Nat) : Nat := if k = 0 then 0 else 1
section PP
variable {l : Launch} {E : EN} {w : CO} {wm : MO} {dm d : Nat} {al : Int32} {ch : Nat → Nat} {n hf : Nat} {s0 : MS} {x0 nw na K0 lo pc p o ca cap c gm p1 o1 ca1 cap1 c1 p2 p3 o2 c2 K fl N q u u' r m k pl nm npl : Nat} {vs vs1 : List Nat} {O O1 O2 O3 : Nat → Od} {A A0 dA : List (Nat × Nat × Nat)} {B : List Tok} {dC : List CE} {X X1 X2 : List XE} {s s1 s2 s3 : CS} {f f1 f2 f3 : RH} {q1 q2 : Nat × Nat} {wg V cc e : Nat → Nat} {S L : Nat → Int32} {Q : KO → CS → RH → Prop}
theorem fin_pla {Rq : Nat × Nat → Tok → Prop} (h : pC l E w wm dm al ch n hf s0 x0 nw na f.1 p p o ca cap c vs O A B X s f 21 181 N q u r gm wg1 q1 p1 o ca1 cap1 c1 vs1 O1 dC dA X s1 f1 m V S L cc e) (hu : 1 ≤ u) (hmu : m ≤ u + 1) (hr : r ≤ u) (hC : CHN (fun _ l od => od = (7, 0, 0, 0, l)) (4000 * (1 - hf) + c1) m S L cc e O1) (v : ∃ z : Int32, vl f1 N 165 = .int z) (hq : Rq q1 (tk ch n p1)) : pOk l E w wm dm al ch n hf s0 x0 nw na p o ca cap c vs O A B X s f Rq (gm + 1) N s1 f1 := by
  have h' := h
  obtain ⟨h1, ⟨o2, n2, n3, w2, n5⟩, a1, a2, a3, capN, -, -, j5, j6, j7, j8, j9, j10⟩ := h
  have hpn := h1.1.2.2.1.2.1
  have hpp := h1.2.2.2.2.2.1
  obtain ⟨zz, v⟩ := v
  refine h1.ok hq ⟨by omega, 21, o2.1, by decide⟩ ?_ ⟨by omega, by omega, by omega, by omega⟩
  intro f' P F M nv' t1 t2 t3 t4 t5
  obtain ⟨⟨kn, -, kl⟩, ⟨kc0, kcm⟩, kk⟩ := h'.kids (by omega) (Nat.le_refl f1.1) t1 t2 t3 t4 t5
  obtain ⟨hC1, hC2, hC3, hC4⟩ := hC
  refine ⟨N, zz, rfl, by omega, by rw [t2.vl n3 n2 o2 (by decide)]; exact v, hN_1 _ _, Or.inr (Or.inr (Or.inr (Or.inr (Or.inl ⟨t2.oc n3 n2 o2, q, m, fun k => .ref (V k), L, cc, by rw [t2.vl n3 n2 o2 (by decide)]; exact w2, kn, kl, hC3, ?_, fun k k1 k2 => ?_, kcm.symm⟩))))⟩
  · have := (kk 0 (by omega)).2
    rw [hC1, kc0] at this
    exact this
  · obtain ⟨y1, y2⟩ := kk k k2
    obtain ⟨x1, x2, x3⟩ := hC4 k k1 k2
    have ew : wg1 k = 1 := if_neg (by omega)
    rw [ew] at y1 y2
    have ep := (t3 (e k) (by omega) (by omega)).eq (by rw [x1]; exact Nat.ne_of_beq_eq_false rfl) (by rw [x1]; exact Nat.ne_of_beq_eq_false rfl)
    rw [x1] at ep
    exact ⟨e k, 0, 0, hN p p1 - 1, 0, by omega, y2, ep, x2⟩
/-- the loop of places -/
theorem L_pla (hst : l.stackTraces = false) (hIH : ∀ p', p < p' → xSp l E w wm dm al ch n hf s0 x0 nw na K0 p') (hi : pIn E w ch n x0 nw na K0 p o ca cap c vs A B X s f) (hX : X.length ≤ 6 * o + 5) (hal : al = 0 ∨ ¬ X = []) (hd : 20 * (10 - o) + 30 ≤ d)
    (hok : ∀ v s' f', pOk l E w wm dm al ch n hf s0 x0 nw na p o ca cap c vs O A B X s f (fun q t => q = (1, 0) ∧ ¬ (t.1 = 3 ∧ t.2.2.1 = 91)) (7 * (10 - o) + 2) v s' f' → Q (.inl (some (.ref v))) s' f') (hbad : ∀ s' f', pBad l E wm dm al ch n hf s0 K0 p o c vs O B X s s' f' → Q (.inr 1) s' f') :
    ∀ b p1 ca1 cap1 c1 vs1 O1 dC dA s1 f1 m V S L cc e, n - p1 ≤ b → pC l E w wm dm al ch n hf s0 x0 nw na f.1 p p o ca cap c vs O A B X s f 21 181 N q (2 * m) m (7 * (10 - o) + 1) wg1 (1, 0) p1 o ca1 cap1 c1 vs1 O1 dC dA X s1 f1 (m + 1) V S L cc e → p + 3 * m + 1 ≤ p1 → (m = 0 → (tk ch n p1).1 = 3 ∧ (tk ch n p1).2.2.1 = 91) → CHN (fun _ l od => od = (7, 0, 0, 0, l)) (4000 * (1 - hf) + c1) (m + 1) S L cc e O1 → (∃ z : Int32, vl f1 N 165 = .int z) → ExC l E w (d + 1) MX11_places 37 [some (.ref x0), none, some (.ref N), none] [] s1 f1 Q := by
  intro b
  obtain ⟨d, rfl⟩ : ∃ d', d = d' + 7 := ⟨d - 7, by omega⟩
  have hA2 := hi.2.2.2.2.1.2.2.2
  have hX2 := hi.2.2.2.2.2.1
  have h12 := hi.2.2.2.2.1.1
  have hXc := hi.2.2.2.2.1.2.1
  induction b with
  | zero =>
    intro p1 ca1 cap1 c1 vs1 O1 dC dA s1 f1 m V S L cc e hb h hp hz hC hv
    have hs := h.1.1.2
    have ht := hs.tk
    have hr := h.1.2.1.2.1
    refine vR11_places_37 ⟨hr.1.1, hr.1.2.1, C_is hst (c := 91) hs.2.1.1 ht.1.1 ht.2.2.2.1 (by decide) ⟨_, rfl, pk_b (fun z => hok N s1 f1 (fin_pla h (by have := hz; by_cases c0 : m = 0; exact absurd (hz c0) z; omega) (by omega) (by omega) hC hv ⟨rfl, z⟩)) (fun z => ?_)⟩⟩
    have := ht.1.2.1
    have := ht.1.2.2.2.2
    have := ht.2.2.2.2 (by omega)
    omega
  | succ b ih =>
    intro p1 ca1 cap1 c1 vs1 O1 dC dA s1 f1 m V S L cc e hb h hp hz hC hv
    have hs := h.1.1.2
    have ht := hs.tk
    have hr := h.1.2.1.2.1
    have hkc := h.1.kc hi
    have hp1 := ht.1.2.1
    have I1 : pIn E w ch n x0 nw na K0 p1 o ca1 cap1 c1 vs1 (A ++ dA) (B ++ dC.map toB) X s1 f1 ∨ m = 0 := by
      by_cases c0 : m = 0
      · exact Or.inr c0
      · obtain ⟨h1, h2, a1, a2, a3, capN, h3, h4, h5, h6, h7, h8, h9, h10⟩ := h
        exact Or.inl (h1.inn (u := 2 * m) hi (by omega) h8 (by omega) (fun y hy => by have := hX2 y hy; omega) (by omega))
    have hnum : c1 < 3850 ∧ c1 + X.length < 3890 ∧ (B ++ dC.map toB).length < 800 ∧ f1.2.1 ≤ K0 := by
      have hm := hi.nums
      have hcap1 := hr.2.2.2.2.2.2.2.2.2.1
      have hpn := hs.2.1.2.1
      have hK' := hi.2.2.2.2.2.2.1
      obtain ⟨h1, h2, a1, a2, a3, capN, h3, h4, h5, h6, h7, h8, h9, h10⟩ := h
      rw [List.length_append, List.length_map]
      have hpp := h1.2.2.2.2.2.1
      have hB := hi.2.2.2.2.1.2.2.1
      omega
    refine vR11_places_37 ⟨hr.1.1, hr.1.2.1, C_is hst (c := 91) hs.2.1.1 ht.1.1 ht.2.2.2.1 (by decide) ⟨_, rfl, pk_b (fun z => hok N s1 f1 (fin_pla h (by by_cases c0 : m = 0; exact absurd (hz c0) z; omega) (by omega) (by omega) hC hv ⟨rfl, z⟩)) (fun z => ⟨hr.1.1, hr.1.2.1, fun y ey => ?_⟩)⟩⟩
    have hp2 := ht.2.2.2.2 (by omega)
    rw [hs.2.1.1.2.1] at ey
    subst ey
    refine ⟨hr.1.1, hr.1.2.1, C_takeS hst (c := 91) hs hkc.1.1 (by decide) (fun z => absurd z (by decide)) (fun y => absurd z y) (fun _ _ _ y s' hF => hbad s' f1 (h.1.flt hF (by omega) (by decide) ?_)) (fun _ _ y s' y4 hF => hbad s' f1 (h.1.flt hF (by omega) (by decide) ?_)) (fun _ _ y s2 hcf2 hs2 => ⟨rfl, h.2.1.1, q, h.2.1.2.2.2.1, ?_⟩)⟩
    · exact XB_at hst z.1 z.2 y (by omega) hal (by omega)
    · have ho : ¬ o = 10 := fun q => y ⟨Or.inr (Or.inl rfl), q⟩
      have := hs.2.2.2
      exact (XF_at hst z.1 z.2 (by omega) hal (by omega)).bad (XB_bad0 hst y4 (by rw [List.length_cons]; omega) (by omega))
    have ho : ¬ o = 10 := fun q => y ⟨Or.inr (Or.inl rfl), q⟩
    have ho' := hs.2.2.2
    rw [if_pos (by decide)] at hs2
    have k0 := h.tok (u' := 1) hcf2 hs2 (XF_at hst z.1 z.2 (by omega) hal (by omega)) (by omega) (by omega)
    refine k0.one hst (sg := 0) (plc := nI (tk ch n p1).2.1) (hIH _ (by omega)) hi (by omega) (by omega) (by omega) (by omega) (by omega) (Nat.zero_le _) (by show 3 ≤ 4; omega) (by omega) (by omega) (by have : wg1 (m + 1) = 1 := if_neg (by omega); omega) (by omega) (fun v f3 p2 vs2 O2 c2 dC2 dA2 ca2 cap2 q2 s3 k1 k2 k3 k4 => ?_) hbad
    have I2 := k1.inn hi (by omega) (by omega) (by omega) (by omega) (Nat.zero_le _)
    have hm2 := I2.nums
    have hs3 := I2.1
    have hr3 := I2.2.2.1
    have ht3 := hs3.tk
    have hp3 := ht3.1.2.1
    have hwk : wk (tk ch n p2) = 2 := if_neg hs3.2.1.2.2
    have hXl : ((4, 0, 0, (tk ch n p1).2.1, 0, 0) :: X).length = X.length + 1 := rfl
    refine ⟨hr3.1.1, hr3.1.2.1, C_takeS hst (c := 93) hs3 I2.2.1.1 (by decide) (fun _ => by omega) (fun y s' hF => hbad s' f3 (k1.1.flt hF (by omega) (by decide) ?_)) (fun _ _ y => absurd y (by decide)) (fun e3 e4 _ s' y4 hF => hbad s' f3 (k1.1.flt hF (by omega) (by decide) ?_)) (fun e3 e4 _ s4 hcf4 hs4 => ⟨rfl, ?_⟩)⟩
    · rw [← hwk]
      exact XB_place hst k2 (by omega) (by omega) rfl (by show 0 < 9999; omega) (by omega) y
    · exact (XF_place hst k2 (by omega) (by omega) rfl (by show 0 < 9999; omega) (by omega) e3 e4).bad (XB_bad hst y4 (by omega) (by rw [hXl] at hm2; omega) (fun x hx => hi.nums.2.2.2.2.2.2.1 x hx))
    · rw [if_neg (by decide), if_pos (by decide)] at hs4
      have hp4 := ht3.2.2.2.2 (by omega)
      have k5 := k1.clo (u' := 1) hcf4 hs4 (XF_place hst k2 (by omega) (by omega) rfl (by show 0 < 9999; omega) (by omega) e3 e4) (by omega) (by omega) (by omega)
      have cN := (cellE k3).2.2
      have eu : 2 * m + 1 + 1 = 2 * (m + 1) := by omega
      rw [eu] at k5
      refine ih _ _ _ _ _ _ _ _ _ _ (m + 1) _ _ _ _ _ (by have := hs4.2.1.2.1; omega) k5 (by omega) (fun y => by omega) (hC.up k4.2.2 (Nat.add_le_add_left k4.2.1 _) rfl) ?_
      rw [cN]; exact hv
theorem R_places (hst : l.stackTraces = false) (hIH : ∀ p', p < p' → xSp l E w wm dm al ch n hf s0 x0 nw na K0 p') (hA : aS l E w wm dm al ch n hf s0 x0 nw na K0 p) : plS l E w wm dm al ch n hf s0 x0 nw na K0 p := by
  intro o ca cap c vs O A B X s f d Q h hX hah hal hd hok hbad
  have hr := h.2.2.1
  have hm := h.nums
  have hX1 := h.2.2.2.2.1
  have hfb := h.2.2.2.1
  have hK' := h.2.2.2.2.2.2.1
  have hK := h.2.2.2.2.2.2.2
  obtain ⟨d, rfl⟩ : ∃ d', d = d' + 7 + 1 := ⟨d - 8, by omega⟩
  have M0 := pM.init (l := l) (wm := wm) (dm := dm) (al := al) (hf := hf) (s0 := s0) (O := O) h
  refine eR11_places hst ⟨hr.1.1, hA o ca cap c vs O A B X s f (d + 7) _ h hX hah (by omega) (fun v s1 f1 k => ⟨v, rfl, ?_⟩) hbad⟩
  have kB : B ++ ([] : List CE).map toB = B := by rw [List.map_nil, List.append_nil]
  have kA : A ++ [] = A := List.append_nil A
  have k0 := k
  rw [← kB, ← kA] at k
  obtain ⟨p1, vs1, O1, c1, dC, dA, ca1, cap1, q1, M1, k2, ⟨k3, k4, k5, k5', k6⟩, ⟨k7, k8, k9, k10, k11, k12⟩⟩ := M0.sub k
  have hs1 := M1.1.2
  have hr1 := M1.2.1.2.1
  have ht1 := hs1.tk
  have k2 : q1 = (1, 0) := k2
  subst k2
  have hp1 := hs1.2.1.2.1
  have hl1 := k3.1
  have hcap1 := hr1.2.2.2.2.2.2.2.2.2.1
  refine ⟨hr1.1.1, hr1.1.2.1, C_is hst (c := 91) hs1.2.1.1 ht1.1.1 ht1.2.2.2.1 (by decide) ⟨_, rfl, bn_b (fun z => hok v s1 f1 ?_) (fun z => ⟨by unfold rmF; omega, fun N f2 eN e2 => ?_⟩)⟩⟩
  · exact M1.ok ⟨rfl, z⟩ k4 (k6.mono (by omega) (Nat.le_refl _)) ⟨k7, k9, k10, k12⟩
  subst eN
  have g2 : gE [] f1 f2 := by rw [e2]; exact gE.new _ _
  have o2 : oc f2 f1.1 21 := by rw [e2]; exact oc_new _ _
  have z2 : f2.1 = f1.1 + 1 ∧ f2.2.1 = f1.2.1 + 3 := by rw [e2]; exact ⟨rfl, rfl⟩
  have n2 : vl f2 f1.1 165 = .int 0 := by rw [e2]; exact vl_new _ _ _
  have hfb1 : f1.2.2.2 ≤ f1.1 := (M1.kc h).2
  refine I_pla (lo := f1.1) hst o2 (by omega) (by rw [g2.2.1]; exact hfb1) (by omega) (by omega) (fun f3 q a1 a2 a3 hn g3 o3 v3 w3 z3 => ⟨rfl, o3, q, v3, ?_⟩)
  have hl3 := g3.1
  have g13 : gE [] f1 f3 := g2.own g3 (Nat.le_refl _)
  refine pC.first (d := d + 6) hst M1 h k4 (k6.mono (Nat.le_refl _) (Nat.le_refl _)) g13 ⟨o3, by omega, Nat.le_refl _, v3, by decide⟩ hn (wg := wg1) rfl ⟨by omega, k9, k10⟩ (fun f4 C1 e4 => ⟨rfl, ?_⟩)
  exact L_pla (d := d + 7) hst hIH h hX hal (by omega) hok hbad (n - p1) _ _ _ _ _ _ _ _ _ _ 0 _ _ _ _ _ (Nat.le_refl _) C1 (by omega) (fun _ => z) ⟨rfl, rfl, Nat.le_refl _, fun k k1 k2 => by omega⟩ ⟨0, by rw [(cellE e4).2.2]; exact (w3 165 (by decide)).trans n2⟩
theorem lvT_or (t : Tok) : lvT t = 9 ∨ lvT t < 4 := by
  unfold lvT
  split
  · by_cases c : slv t.2.2.1 = 9
    · exact Or.inl c
    · have := (sgV_slv (slv_V c)).1
      omega
  · exact Or.inl rfl
theorem bI_nar (b : Bool) : narrow .boolean (.int (bI b)) = .int (bI b) ∧ fits .boolean (.int (bI b)) = true := by cases b <;> decide
/-- a prefix -/
theorem pre_core (hst : l.stackTraces = false) (hP : ∀ p', p < p' → plS l E w wm dm al ch n hf s0 x0 nw na K0 p') (h : pIn E w ch n x0 nw na K0 p o ca cap c vs A B X s f) (hX : X.length ≤ 6 * o + 4) (ht2 : ¬ topk X = 2) (hd : 20 * (10 - o) + 33 ≤ d) (h3 : (tk ch n p).1 = 3) (hs : (tk ch n p).2.2.1 = 45 ∨ (tk ch n p).2.2.1 = 33)
    (hok : ∀ v s' f', pOk l E w wm dm al ch n hf s0 x0 nw na p o ca cap c vs O A B X s f (okL 4) (7 * (10 - o) + 3) v s' f' → Q (.inl (some (.ref v))) s' f') (hbad : ∀ s' f', pBad l E wm dm al ch n hf s0 K0 p o c vs O B X s s' f' → Q (.inr 1) s' f') :
    oc f x0 11 ∧ vl f x0 147 = .ref (w.1 2) ∧ (∀ y4 : Int32, y4 = (s.1 21) → (oc f x0 11 ∧ vl f x0 147 = .ref (w.1 2) ∧ (EvC l E w d MX2_is [.ref (w.1 2), .int 33] s f (fun o s5 f6 => KP o (fun r => ∃ v7 : Int32, r = some (.int v7) ∧ (oc f6 x0 11 ∧ vl f6 x0 147 = .ref (w.1 2) ∧ (EvC l E w d MX2_next [.ref (w.1 2)] s5 f6 (fun o s8 f9 => KP o (fun r => r = none ∧ (rmF E f9 1 3 ∧ ∀ (a10 : Nat) (f11 : RH), a10 = f9.1 → f11 = fnew f9 22 → (oc f11 x0 11 ∧ EvC l E w d MX11_places [.ref x0] s8 f11 (fun o s12 f13 => KP o (fun r => ∃ a14 : Nat, r = some (.ref a14) ∧ (EvC l E w d MX24_init [.ref a10, .ref a14, .int v7] s12 f13 (fun o s15 f16 => KP o (fun r => r = none ∧ (∃ k18 : Nat, oc f16 a10 k18 ∧ 165 ∈ CF k18 ∧ ¬ k18 = 30 ∧ f16.2.2.2 ≤ a10 ∧ ∀ f17 : RH, f17 = fset f16 a10 165 (.int y4) → Q (.inl (some (.ref a10))) s15 f17)) (fun k => Q (.inr k) s15 f16)))) (fun k => Q (.inr k) s12 f13))))) (fun k => Q (.inr k) s8 f9))))) (fun k => Q (.inr k) s5 f6))))) := by
  have hr := h.2.2.1
  have hm := h.nums
  have hsc := h.1
  have ht := hsc.tk
  have hX1 := h.2.2.2.2.1
  have hX2 := h.2.2.2.2.2.1
  have hfb := h.2.2.2.1
  have hp1 := ht.1.2.1
  have hp2 := ht.2.2.2.2 (by omega)
  obtain ⟨d, rfl⟩ : ∃ d', d = d' + 6 + 1 := ⟨d - 7, by omega⟩
  have M0 := pM.init (l := l) (wm := wm) (dm := dm) (al := al) (hf := hf) (s0 := s0) (O := O) h
  refine ⟨hr.1.1, hr.1.2.1, fun y ey => ⟨hr.1.1, hr.1.2.1, C_is hst (c := 33) hsc.2.1.1 ht.1.1 ht.2.2.2.1 (by decide) ⟨_, rfl, hr.1.1, hr.1.2.1, ?_⟩⟩⟩
  rw [hsc.2.1.1.2.1] at ey
  subst ey
  have xa := XF_ahead (l := l) (E := E) (w := wm) (d := dm) (al := al) (hf := hf) (s0 := s0) (o := o) (vs := vs) (O := O) (c := c) (B := B ++ ([] : List CE).map toB) (X := X) hst h3 hs ht2 (by omega) (by omega)
  refine C_nextS hst hsc h.2.1.1 (fun s' y4 hF => hbad s' f (M0.flt hF (by omega) (by decide) (xa.bad (XB_bad0 hst y4 (by rw [List.length_cons]; omega) (by omega))))) (fun s1 hcf1 hs1 => ⟨rfl, by unfold rmF; omega, fun N f1 eN e1 => ?_⟩)
  subst eN
  have g1 : gE [] f f1 := by rw [e1]; exact gE.new _ _
  have o1 : oc f1 f.1 22 := by rw [e1]; exact oc_new _ _
  have z1 : f1.1 = f.1 + 1 ∧ f1.2.1 = f.2.1 + 4 := by rw [e1]; exact ⟨rfl, rfl⟩
  have M1 := (M0.tok hcf1 hs1 xa (fun _ _ => rfl) (by omega) (Nat.le_refl _)).heap h g1 (fun a ha => absurd ha List.not_mem_nil)
  have I1 := M1.inn (u := 1) h (by omega) (by rw [List.length_nil]; omega) (by rw [List.length_cons]; omega) (fun x hx => by
    rcases List.mem_cons.mp hx with rfl | hx
    · exact Nat.zero_le _
    · have := hX2 x hx; omega) (by omega)
  refine ⟨I1.2.2.1.1.1, hP _ (by omega) o ca cap c vs O _ _ _ s1 f1 (d + 6 + 1) _ I1 (by rw [List.length_cons]; omega) (fun y => y.2.2 rfl) (Or.inr (fun y => (by cases y))) (by omega) (fun v s2 f2 k => ⟨v, rfl, ?_⟩) (fun s' f' k => hbad s' f' (M1.bad k))⟩
  obtain ⟨p2, vs2, O2, c2, dC2, dA2, ca2, cap2, q2, M2, ⟨k2, k2'⟩, ⟨k3, k4, k5, k5', k6⟩, ⟨k7, k8, k9, k10, k11, k12⟩⟩ := M1.sub k
  subst k2
  have lx := hr.1.2.2.1
  have lw := hr.2.1.2.2.1
  have la := hr.2.2.1.2.2.1
  have hl2 := k3.1
  have r1 := M1.2.1.2.1
  have hNc : f.1 ∉ [x0, nw, na, ca] := by
    intro z
    have lc := hr.2.2.2.2.2.1
    simp only [List.mem_cons, List.not_mem_nil, or_false] at z
    omega
  have o2 : oc f2 f.1 22 := ocE (k3.ce (by omega) hNc) o1
  have cb2 : f2.2.2.2 ≤ f.1 := by rw [M2.2.1.1.2.1]; exact hfb
  refine eX24_init hst (eX16_init hst ⟨rfl, o2, cb2, fun f3 e3 => ?_⟩)
  have o3 : oc f3 f.1 22 := by rw [e3]; exact set_oc o2
  obtain ⟨bn1, bn2⟩ := bI_nar (decide ((tk ch n p).1 = 3 ∧ (tk ch n p).2.2.1 = 33))
  refine ⟨bn1, bn2, o3, by rw [e3]; exact cb2, fun f4 e4 => ⟨rfl, ?_⟩⟩
  have o4 : oc f4 f.1 22 := by rw [e4]; exact set_oc o3
  refine ⟨22, o4, by decide, by decide, by rw [e4, e3]; exact cb2, fun f5 e5 => hok f.1 s2 f5 ?_⟩
  have o5 : oc f5 f.1 22 := by rw [e5]; exact set_oc o4
  have g25 : gE [f.1] f2 f5 := by
    have a1 : gE [f.1] f2 f3 := by rw [e3]; exact gE.set _ _ _
    have a2 : gE [f.1] f3 f4 := by rw [e4]; exact gE.set _ _ _
    have a3 : gE [f.1] f4 f5 := by rw [e5]; exact gE.set _ _ _
    exact (a1.trans a2 (fun _ z => Or.inl z)).trans a3 (fun _ z => Or.inl z)
  have z5 : f5.1 = f2.1 ∧ f5.2.1 = f2.2.1 := by rw [e5, e4, e3]; exact ⟨rfl, rfl⟩
  have w5 : vl f5 f.1 165 = .int (nI (tk ch n p).2.1) ∧ vl f5 f.1 183 = .int (bI (decide ((tk ch n p).1 = 3 ∧ (tk ch n p).2.2.1 = 33))) ∧ vl f5 f.1 182 = .ref v := by
    refine ⟨by rw [e5]; exact set_vl o4.1, ?_, ?_⟩
    · rw [e5]; refine (set_vn o4.1 (by decide)).trans ?_
      rw [e4]; exact set_vl o3.1
    · rw [e5]; refine (set_vn o4.1 (by decide)).trans ?_
      rw [e4]; refine (set_vn o3.1 (by decide)).trans ?_
      rw [e3]; exact set_vl o2.1
  have M3 := (M2.heap h g25 (fun a ha => Or.inr (by rw [List.mem_singleton.mp ha, o2.1]; exact ⟨Nat.le_refl _, fun z => (by cases z), Or.inr (fun z => (by cases z))⟩))).xf (XF_one (x := (2, (tk ch n p).2.2.1, 0, (tk ch n p).2.1, 0, 0)) rfl) (fun i hi => oup_ne _ _ (by omega)) (by omega)
  have od : odY (2, (tk ch n p).2.2.1, 0, (tk ch n p).2.1, 0, 0) = (4, (tk ch n p).2.2.1, 0, 0, nI (tk ch n p).2.1) := if_pos rfl
  rw [od] at M3
  refine M3.ok ⟨Or.inl ⟨rfl, lvT_or _⟩, k2'⟩ ⟨by omega, 22, o5.1, by decide⟩ ?_ ⟨by omega, by omega, by rw [List.nil_append]; omega, by omega⟩
  intro f' P F M nv' t1 t2 t3 t4 t5
  have k6' : Rp f5 (oup O2 (4000 * (1 - hf) + c2) (4, (tk ch n p).2.2.1, 0, 0, nI (tk ch n p).2.1)) dC2 f1.1 f2.1 vs2.length (4000 * (1 - hf) + c) (4000 * (1 - hf) + c2) (7 * (10 - o) + 2) (hN p p2) (.ref v) := (k6.keep (fun x x1 x2 _ => g25.ce (by omega) (by simp only [List.mem_singleton]; omega)) (fun i i1 i2 => oup_ne _ _ (by omega)) (fun _ z => z) (Nat.le_refl _)).mono (Nat.le_refl _) (hN_le (by omega) (Nat.le_refl _))
  have hlt : f.1 < f5.1 := by omega
  have ep := (t3 (4000 * (1 - hf) + c2) (by omega) (by omega)).eq (by rw [oup_at]; exact Nat.ne_of_beq_eq_false rfl) (by rw [oup_at]; exact Nat.ne_of_beq_eq_false rfl)
  rw [oup_at] at ep
  refine ⟨f.1, nI (tk ch n p).2.1, rfl, by omega, by rw [t2.vl (Nat.le_refl _) hlt o5 (by decide)]; exact w5.1, hN_1 _ _, Or.inr (Or.inr (Or.inl ⟨t2.oc (Nat.le_refl _) hlt o5, 4000 * (1 - hf) + c2, (tk ch n p).2.2.1, 0, 0, decide ((tk ch n p).1 = 3 ∧ (tk ch n p).2.2.1 = 33), by rw [t2.vl (Nat.le_refl _) hlt o5 (by decide)]; exact w5.2.1, ?_, ?_, ep, by omega⟩))⟩
  · rw [t2.vl (Nat.le_refl _) hlt o5 (by decide), w5.2.2]
    exact k6' f' P F M nv' (by omega) (fun x x1 x2 => t2 x (by omega) (by omega)) (fun i i1 i2 => t3 i i1 (by omega)) t4 t5
  · refine ⟨?_, by rcases hs with z | z <;> rw [z] <;> decide⟩
    rcases hs with z | z
    · rw [z, decide_eq_false (fun y => absurd y.2 (by decide))]; rfl
    · rw [z, h3]; decide
theorem R_pre (hst : l.stackTraces = false) (hP : ∀ p', p < p' → plS l E w wm dm al ch n hf s0 x0 nw na K0 p') (hP0 : plS l E w wm dm al ch n hf s0 x0 nw na K0 p) : lvS l E w wm dm al ch n hf s0 x0 nw na K0 4 p := by
  intro o ca cap c vs O A B X s f d Q h hX ht2 hx hal hd hok hbad
  have eg : 7 * (10 - o) + 7 - 4 = 7 * (10 - o) + 3 := by omega
  rw [eg] at hok
  have hr := h.2.2.1
  have hm := h.nums
  have hsc := h.1
  have ht := hsc.tk
  obtain ⟨d, rfl⟩ : ∃ d', d = d' + 1 + 1 := ⟨d - 2, by omega⟩
  refine eR11_level hst ⟨fun z => absurd rfl z, fun _ => ⟨hr.1.1, ?_⟩⟩
  have pc := fun (h3 : (tk ch n p).1 = 3) (hs : (tk ch n p).2.2.1 = 45 ∨ (tk ch n p).2.2.1 = 33) => pre_core (d := d) (O := O) (Q := fun o s17 f18 => KP o (fun r => ∃ a19 : Nat, r = some (.ref a19) ∧ Q (.inl (some (.ref a19))) s17 f18) (fun k => Q (.inr k) s17 f18)) hst hP h hX ht2 (by omega) h3 hs (fun v s' f' k => ⟨v, rfl, hok v s' f' k⟩) hbad
  refine eR11_prefix hst ⟨hr.1.1, hr.1.2.1, ?_⟩
  refine C_is hst (c := 45) hsc.2.1.1 ht.1.1 ht.2.2.2.1 (by decide) ⟨_, rfl, ?_⟩
  refine bn_b (fun z => ⟨hr.1.1, hr.1.2.1, ?_⟩) (fun z => pc z.1 (Or.inl z.2))
  refine C_is hst (c := 33) hsc.2.1.1 ht.1.1 ht.2.2.2.1 (by decide) ⟨_, rfl, ?_⟩
  refine bn_b (fun z' => ⟨hr.1.1, ?_⟩) (fun z' => pc z'.1 (Or.inr z'.2))
  refine hP0 o ca cap c vs O A B X s f d _ h (by omega) (fun y => by rcases y.2.1 with q | q; exact z ⟨y.1, q⟩; exact z' ⟨y.1, q⟩) hal (by omega) (fun v s' f' k => ⟨v, rfl, v, rfl, hok v s' f' ?_⟩) hbad
  obtain ⟨p', vs', O', c', dC, dA, ca', cap', q', k1, k2, ⟨⟨k3, k3'⟩, k4⟩, ⟨k5, k6, k7⟩, k8⟩ := k
  subst k3
  exact ⟨p', vs', O', c', dC, dA, ca', cap', (2, 4), k1, k2, ⟨⟨Or.inl ⟨rfl, lvT_or _⟩, k3'⟩, k4.trans XF_op⟩, ⟨k5, k6, k7.mono (by omega) (Nat.le_refl _)⟩, k8⟩
end PP
