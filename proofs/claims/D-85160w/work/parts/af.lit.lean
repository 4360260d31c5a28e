/-! ATOMS: ( E ), literals -/
section PL
variable {l : Launch} {E : EN} {w : CO} {wm : MO} {dm d : Nat} {al : Int32} {ch : Nat → Nat} {n hf : Nat} {s0 : MS} {x0 nw na K0 lo pc p o ca cap c gm p1 o1 ca1 cap1 c1 p2 p3 o2 c2 K fl N q u u' r m k pl : Nat} {vs vs1 : List Nat} {O O1 O2 : Nat → Od} {A A0 dA : List (Nat × Nat × Nat)} {B : List Tok} {dC : List CE} {X X1 X2 : List XE} {s s1 s2 s3 : CS} {f f1 f2 : RH} {q1 q2 : Nat × Nat} {wg V cc e : Nat → Nat} {S L : Nat → Int32} {Q : KO → CS → RH → Prop}
theorem pM.kc (h : pM l E w wm dm al ch n hf s0 x0 nw na lo pc p o ca cap c vs O A B X s f q1 p1 o1 ca1 cap1 c1 vs1 O1 dC dA X1 s1 f1) (hi : pIn E w ch n x0 nw na K0 p o ca cap c vs A0 B X s f) : cKc E f1 ∧ f1.2.2.2 ≤ f1.1 := by
  have h2 := h.2.1.1
  have i3 := hi.2.2.1
  have hl := h2.1
  have hb := hi.2.2.2.1
  refine ⟨hi.2.1.ge h2 (fun a ha => ?_) hi.2.2.2.1, by rw [h2.2.1]; omega⟩
  simp only [List.mem_cons, List.not_mem_nil, or_false] at ha
  rcases ha with rfl | rfl | rfl | rfl
  · exact i3.1.2.2.2
  · exact i3.2.1.2.2.2.1
  · exact i3.2.2.1.2.2.2.1
  · exact i3.2.2.2.2.2.2.1
theorem pM.ok {Rq : Nat × Nat → Tok → Prop} {v : Nat} (h : pM l E w wm dm al ch n hf s0 x0 nw na f.1 p p o ca cap c vs O A B X s f q1 p1 o ca1 cap1 c1 vs1 O1 dC dA X s1 f1) (hq : Rq q1 (tk ch n p1)) (hv : nd f1 v) (hR : Rp f1 O1 dC f.1 f1.1 vs1.length (4000 * (1 - hf) + c) (4000 * (1 - hf) + c1) gm (hN p p1) (.ref v)) (hn : p < p1 ∧ c1 + 3 * p ≤ c + 3 * p1 ∧ 2 * dC.length + p ≤ p1 ∧ f1.2.1 + 2 * cap ≤ f.2.1 + 2 * cap1 + 100 * (p1 - p)) : pOk l E w wm dm al ch n hf s0 x0 nw na p o ca cap c vs O A B X s f Rq gm v s1 f1 :=
  ⟨p1, vs1, O1, c1, dC, dA, ca1, cap1, q1, h.1, h.2.1, ⟨hq, h.2.2.1⟩, ⟨h.2.2.2.1, hv, hR⟩, h.2.2.2.2.1, ⟨hn.1, h.2.2.2.2.2.2.1, hn.2.1, hn.2.2.1, h.2.2.2.2.2.2.2.1, hn.2.2.2, h.2.2.2.2.2.2.2.2.1⟩⟩
theorem A_paren (hst : l.stackTraces = false) (hIH : ∀ p', p < p' → xSp l E w wm dm al ch n hf s0 x0 nw na K0 p') (h : pIn E w ch n x0 nw na K0 p o ca cap c vs A B X s f) (hX : X.length ≤ 6 * o + 5) (h3 : (tk ch n p).1 = 3) (h40 : (tk ch n p).2.2.1 = 40) (hd : 20 * (10 - o) + 32 ≤ d)
    (hok : ∀ v s' f', pOk l E w wm dm al ch n hf s0 x0 nw na p o ca cap c vs O A B X s f (fun q _ => q = (1, 0)) (7 * (10 - o) + 1) v s' f' → Q (.inl (some (.ref v))) s' f') (hbad : ∀ s' f', pBad l E wm dm al ch n hf s0 K0 p o c vs O B X s s' f' → Q (.inr 1) s' f') : EvC l E w d MX11_atom [.ref x0] s f Q := by
  have hm := h.nums
  have hsc := h.1
  have ht := hsc.tk
  have hr := h.2.2.1
  have hX2 := h.2.2.2.2.2.1
  have hX1 := h.2.2.2.2.1
  have hp1 := ht.1.2.1
  have hp2 := ht.2.2.2.2 (by omega)
  obtain ⟨d, rfl⟩ : ∃ d', d = d' + 8 := ⟨d - 8, by omega⟩
  have M0 := pM.init (l := l) (wm := wm) (dm := dm) (al := al) (hf := hf) (s0 := s0) (O := O) h
  refine eR11_atom hst ⟨hr.1.1, hr.1.2.1, fun y ey => ⟨hr.1.1, hr.1.2.1, bn_eq (tk ch n p).1 2 (fun _ => ?_) (fun z => absurd z (by omega)) hsc.2.1.1.1 rfl⟩⟩
  refine ⟨hr.1.1, hr.1.2.1, C_is hst (c := 40) hsc.2.1.1 ht.1.1 ht.2.2.2.1 (by decide) ⟨_, rfl, pk_b (fun z => absurd ⟨h3, h40⟩ z) (fun _ => ⟨hr.1.1, hr.1.2.1, ?_⟩)⟩⟩
  refine C_takeS hst (c := 40) hsc h.2.1.1 (by decide) (fun z => absurd z (by decide)) (fun z => absurd ⟨h3, h40⟩ z) (fun _ _ _ z s' hF => ?_) (fun _ _ z s' z4 hF => ?_) (fun _ _ z s1 hcf hs1 => ⟨rfl, ?_⟩)
  · exact hbad s' f (M0.flt hF (by omega) (by decide) (XB_paren hst h3 h40 z (by omega) (by omega)))
  · have ho : ¬ o = 10 := fun y => z ⟨Or.inl rfl, y⟩
    exact hbad s' f (M0.flt hF (by omega) (by decide) ((XF_paren hst h3 h40 (by omega) (by omega) (by omega)).bad (XB_bad0 hst z4 (by rw [List.length_cons]; omega) (by omega))))
  · have ho : ¬ o = 10 := fun y => z ⟨Or.inl rfl, y⟩
    rw [if_pos (by decide)] at hs1
    have M1 := M0.tok hcf hs1 (XF_paren hst h3 h40 (by omega) (by omega) (by omega)) (fun _ _ => rfl) (by omega) (Nat.le_refl _)
    have I1 := M1.inn (u := 1) h (by omega) (by rw [List.length_nil]; omega) (by rw [List.length_cons]; omega) (fun x hx => by
      rcases List.mem_cons.mp hx with rfl | hx
      · exact Nat.zero_le _
      · have := hX2 x hx; omega) (by omega)
    refine ⟨hr.1.1, hIH _ (by omega) (o + 1) ca cap c vs O (A ++ []) _ _ s1 f (d + 7) _ I1 (by rw [List.length_cons]; omega) (fun z => (by cases z)) (fun y X' ey z => by injection ey with e1 e2; rw [← e1] at z; cases z) (Or.inr (fun z => (by cases z))) (by omega) (fun v s2 f2 k => ⟨v, rfl, ?_⟩) (fun s' f' k => hbad s' f' (M1.bad k))⟩
    obtain ⟨p2, vs2, O2, c2, dC2, dA2, ca2, cap2, q2, M2, k2, ⟨k3, k4, k5, k5', k6⟩, ⟨k7, k8, k9, k10, k11, k12⟩⟩ := M1.sub k
    have I2 := M2.inn (u := 1) h (by omega) (by rw [List.nil_append]; omega) (by rw [List.length_cons]; omega) (fun x hx => by
      rcases List.mem_cons.mp hx with rfl | hx
      · exact Nat.zero_le _
      · have := hX2 x hx; omega) (by omega)
    have hm2 := I2.nums
    have hs2 := I2.1
    have hr2 := I2.2.2.1
    have ht2 := hs2.tk
    have hwk : wk (tk ch n p2) = 2 := if_neg hs2.2.1.2.2
    refine ⟨hr2.1.1, hr2.1.2.1, C_takeS hst (c := 41) hs2 I2.2.1.1 (by decide) (fun _ => by omega) (fun z s' hF => hbad s' f2 (M2.flt hF (by omega) (by decide) ?_)) (fun _ _ z => absurd z (by decide)) (fun e3 e4 _ s' z4 hF => hbad s' f2 (M2.flt hF (by omega) (by decide) ?_)) (fun e3 e4 _ s3 hcf3 hs3 => ⟨rfl, hok v s3 f2 ?_⟩)⟩
    · rw [← hwk]
      exact XB_group hst k2 (by omega) (by omega) rfl (by show 0 < 9999; omega) (by omega) z
    · exact (XF_group hst k2 (by omega) (by omega) rfl (by show 0 < 9999; omega) (by omega) e3 e4).bad (XB_bad hst z4 (by omega) (by rw [List.length_cons] at hm2; omega) (fun x hx => hm.2.2.2.2.2.2.1 x hx))
    · rw [if_neg (by decide), if_pos (by decide)] at hs3
      have hp3 := ht2.1.2.1
      have hp4 := ht2.2.2.2.2 (by omega)
      have M3 := M2.tok hcf3 hs3 (XF_group hst k2 (by omega) (by omega) rfl (by show 0 < 9999; omega) (by omega) e3 e4) (fun _ _ => rfl) (by omega) (Nat.le_refl _)
      exact pM.ok M3 rfl k4 (k6.mono (by omega) (hN_le (by omega) (by omega))) ⟨by omega, by omega, by rw [List.nil_append]; omega, by omega⟩
/-- a literal is whole -/
theorem fin_lit (h : pC l E w wm dm al ch n hf s0 x0 nw na f.1 p p o ca cap c vs O A B X s f 16 167 N q u 0 gm (fun k => k) q1 p1 o1 ca1 cap1 c1 vs1 O1 dC dA X1 s1 f1 m V S L cc e) (hi : pIn E w ch n x0 nw na K0 p o ca cap c vs A0 B X s f) (hmu : m ≤ u) (he : ∀ k, k < m → e k = cc (k + 1)) (hm : 2 * m + p ≤ p1) (hp : p1 < p3) {plc : Nat} (M : pM l E w wm dm al ch n hf s0 x0 nw na f.1 p p o ca cap c vs O A B X s f (1, 0) p3 o ca1 cap1 (c1 + 1) vs1 (oup O1 (4000 * (1 - hf) + c1) (6, m, 0, 0, nI plc)) dC dA X s3 f1) (hf2 : f2 = fset f1 N 165 (.int (nI plc))) : pOk l E w wm dm al ch n hf s0 x0 nw na p o ca cap c vs O A B X s f (fun q _ => q = (1, 0)) (gm + 1) N s3 f2 := by
  obtain ⟨n1, n2, n3, n4, n5⟩ := h.2.1
  have hg : gE [N] f1 f2 := by rw [hf2]; exact gE.set _ _ _
  have o2 : oc f2 N 16 := by rw [hf2]; exact set_oc n1
  have v2 : vl f2 N 165 = .int (nI plc) := by rw [hf2]; exact set_vl n1.1
  have w2 : vl f2 N 167 = .ref q := by rw [hf2]; exact (set_vn n1.1 (by decide)).trans n4
  have z2 : f2.1 = f1.1 ∧ f2.2.1 = f1.2.1 := by rw [hf2]; exact ⟨rfl, rfl⟩
  have h' := h.own hi hg w2 z2.2 (Or.inl (by decide))
  have M' := M.heap hi hg (fun a ha => Or.inr (by rw [List.mem_singleton.mp ha, n1.1]; exact ⟨n3, fun z => (by cases z), Or.inr (fun z => (by cases z))⟩))
  obtain ⟨-, -, a1, a2, a3, capN, -, -, j5, j6, j7, j8, j9, j10⟩ := h
  have hpn := M.1.2.2.1.2.1
  refine M'.ok rfl ⟨by omega, 16, o2.1, by decide⟩ ?_ ⟨by omega, by omega, by omega, by omega⟩
  intro f' P F M nv' t1 t2 t3 t4 t5
  have hc1 := h'.1.2.2.2.2.2.2.1
  obtain ⟨⟨kn, -⟩, ⟨kc0, kcm⟩, kk⟩ := h'.kids (by omega) (Nat.le_refl f2.1) t1 t2 (fun i i1 i2 => by have := t3 i i1 (by omega); rw [oup_ne _ _ (by omega)] at this; exact this) t4 t5
  have ep := (t3 (4000 * (1 - hf) + c1) (by omega) (by omega)).eq (by rw [oup_at]; exact Nat.ne_of_beq_eq_false rfl) (by rw [oup_at]; exact Nat.ne_of_beq_eq_false rfl)
  rw [oup_at] at ep
  have hlt : N < f2.1 := by omega
  have hh : hN p p1 ≤ hN p p3 := hN_le (Nat.le_refl _) (by omega)
  refine ⟨N, nI plc, rfl, by omega, by rw [t2.vl n3 hlt o2 (by decide)]; exact v2, hN_1 _ _, Or.inr (Or.inr (Or.inr (Or.inr (Or.inr (Or.inl ⟨t2.oc n3 hlt o2, q, m, 0, 0, fun k => .ref (V k), cc, by rw [t2.vl n3 hlt o2 (by decide)]; exact w2, kn, by unfold hN; omega, kc0, fun k hk => ⟨hN p p1 - k, ?_, ?_⟩, by rw [kcm]; exact ep, by rw [kcm]; omega⟩)))))⟩
  · have h9 : k ≤ hN p p1 := (kk k hk).1.1
    omega
  · rw [← he k hk]; exact (kk k hk).2
/-- the loop of a literal -/
theorem L_lit (hst : l.stackTraces = false) (hIH : ∀ p', p < p' → xSp l E w wm dm al ch n hf s0 x0 nw na K0 p') (hi : pIn E w ch n x0 nw na K0 p o ca cap c vs A B X s f) (hX : X.length ≤ 6 * o + 5) (ho : o < 10) (hd : 20 * (10 - o) + 20 ≤ d) {plc : Nat}
    (hok : ∀ s3 f1, oc f1 N 16 → f1.2.2.2 ≤ N → (∀ f2, f2 = fset f1 N 165 (.int (nI plc)) → pOk l E w wm dm al ch n hf s0 x0 nw na p o ca cap c vs O A B X s f (fun q _ => q = (1, 0)) (7 * (10 - o) + 1) N s3 f2) → Q (.inl (some (.ref N))) s3 f1) (hbad : ∀ s' f', pBad l E wm dm al ch n hf s0 K0 p o c vs O B X s s' f' → Q (.inr 1) s' f') :
    ∀ b p1 ca1 cap1 c1 vs1 O1 dC dA s1 f1 m V S L cc e, n - p1 ≤ b → pC l E w wm dm al ch n hf s0 x0 nw na f.1 p p o ca cap c vs O A B X s f 16 167 N q (m + 1) 0 (7 * (10 - o)) (fun k => k) (0, 0) p1 (o + 1) ca1 cap1 c1 vs1 O1 dC dA ((5, 0, m, plc, 0, 0) :: X) s1 f1 m V S L cc e → p + 1 + 2 * m ≤ p1 → (∀ k, k < m → e k = cc (k + 1)) → ExC l E w (d + 1) MX11_literal 35 [some (.ref x0), some (.ref N), some (.int 1)] [] s1 f1 Q := by
  intro b
  obtain ⟨d, rfl⟩ : ∃ d', d = d' + 7 := ⟨d - 7, by omega⟩
  induction b with
  | zero => 
    intro p1 ca1 cap1 c1 vs1 O1 dC dA s1 f1 m V S L cc e hb h hp he
    have I1 := h.inn hi (by have := hi.2.2.2.2.1.2.2.2; omega) (by omega) (by omega) (by omega) (by show m ≤ p1; omega)
    refine vR11_literal_35 ⟨fun z => absurd z (by decide), fun _ => ⟨h.2.1.1, q, h.2.1.2.2.2.1, ?_⟩⟩
    refine h.list (G := _) hst (hIH p1 (by omega)) hi (by have := hi.2.2.2.2.1.2.2.2; omega) (by omega) (by omega) (by omega) (by omega) (by show m ≤ p1; omega) (by show 3 ≤ 5; omega) (by omega) (by omega) (by show p + 2 * m ≤ p1; omega) (by omega) (fun v f3 p2 vs2 O2 c2 dC2 dA2 ca2 cap2 q2 s2 k1 k2 k3 k4 => ?_) hbad
    have := k1.1.1.2.2.1.2.1
    omega
  | succ b ih => 
    intro p1 ca1 cap1 c1 vs1 O1 dC dA s1 f1 m V S L cc e hb h hp he
    refine vR11_literal_35 ⟨fun z => absurd z (by decide), fun _ => ⟨h.2.1.1, q, h.2.1.2.2.2.1, ?_⟩⟩
    have hA2 := hi.2.2.2.2.1.2.2.2
    refine h.list (G := _) hst (hIH p1 (by omega)) hi (by omega) (by omega) (by omega) (by omega) (by omega) (by show m ≤ p1; omega) (by show 3 ≤ 5; omega) (by omega) (by omega) (by show p + 2 * m ≤ p1; omega) (by omega) (fun v f3 p2 vs2 O2 c2 dC2 dA2 ca2 cap2 q2 s2 k1 k2 k3 k4 => ?_) hbad
    have he' : ∀ k, k < m + 1 → up e m (4000 * (1 - hf) + c2) k = up cc (m + 1) (4000 * (1 - hf) + c2) (k + 1) := by
      intro k hk
      by_cases ek : k = m
      · subst ek; rw [up_at, up_at]
      · rw [up_ne _ _ ek, up_ne _ _ (by omega)]; exact he k (by omega)
    have I2 := k1.inn hi (by omega) (by omega) (by omega) (by omega) (by show m ≤ p2; omega)
    have hm2 := I2.nums
    have hs2 := I2.1
    have hr2 := I2.2.2.1
    have ht2 := hs2.tk
    have hXl : ((5, 0, m, plc, 0, 0) :: X).length = X.length + 1 := rfl
    have hn9 : m < 9999 := by have := I2.1.2.1.2.1; have := hi.2.2.2.2.1.1; omega
    have hwk : wk (tk ch n p2) = 2 := if_neg hs2.2.1.2.2
    have hp3 := ht2.1.2.1
    refine pk_b (fun z => ?_) (fun z => ?_)
    · rw [decide_eq_false z]
      refine vR11_literal_35 ⟨fun _ => ?_, fun z => absurd rfl z⟩
      refine ⟨hr2.1.1, hr2.1.2.1, C_takeS hst (c := 93) hs2 I2.2.1.1 (by decide) (fun _ => by omega) (fun y s' hF => hbad s' f3 (k1.1.flt hF (by omega) (by decide) ?_)) (fun _ _ y => absurd y (by decide)) (fun e3 e4 _ s' z4 hF => hbad s' f3 (k1.1.flt hF (by omega) (by decide) ?_)) (fun e3 e4 _ s3 hcf3 hs3 => ⟨rfl, hok s3 f3 k1.2.1.1 ?_ (fun f4 e4' => ?_)⟩)⟩
      · rw [← hwk]
        exact XB_list hst k2 (by omega) (by omega) rfl (by show 0 < 30; omega) hn9 (by omega) y z
      · exact (XF_list hst k2 (by omega) (by omega) rfl (by show 0 < 30; omega) hn9 (by omega) e3 e4).bad (XB_bad hst z4 (by omega) (by rw [hXl] at hm2; omega) (fun x hx => hi.nums.2.2.2.2.2.2.1 x hx))
      · rw [k1.1.2.1.1.2.1]; have := hi.2.2.2.1; have := k1.2.1.2.2.1; omega
      · rw [if_neg (by decide), if_pos (by decide)] at hs3
        have hp4 := ht2.2.2.2.2 (by omega)
        have M3 := k1.1.tok hcf3 hs3 (XF_list hst k2 (by omega) (by omega) rfl (by show 0 < 30; omega) hn9 (by omega) e3 e4) (fun i hi => oup_ne _ _ (by omega)) (by omega) (by omega)
        exact fin_lit k1 hi (by omega) he' (by omega) (by omega) M3 e4'
    · rw [decide_eq_true z]
      refine ⟨hr2.1.1, hr2.1.2.1, C_nextS hst hs2 I2.2.1.1 (fun s' z4 hF => hbad s' f3 (k1.1.flt hF (by omega) (by decide) ?_)) (fun s3 hcf3 hs3 => ⟨rfl, ?_⟩)⟩
      · exact (XF_comma hst k2 (by omega) (by omega) (by show 5 ≤ 5; omega) (Or.inl (by show 5 ≤ 7; omega)) (fun _ => by show 0 < 30; omega) hn9 (fun y => by have y : 5 = 7 := y.1; omega) z.1 z.2).bad (XB_bad0 hst z4 (by show X.length + 1 ≤ 74; omega) (by omega))
      · have hp4 := ht2.2.2.2.2 (by omega)
        have k3' := k1.tok (u' := 1) hcf3 hs3 (XF_comma hst k2 (by omega) (by omega) (by show 5 ≤ 5; omega) (Or.inl (by show 5 ≤ 7; omega)) (fun _ => by show 0 < 30; omega) hn9 (fun y => by have y : 5 = 7 := y.1; omega) z.1 z.2) (by omega) (by omega)
        exact ih _ _ _ _ _ _ _ _ _ _ _ _ _ _ _ _ (by have := hs3.2.1.2.1; omega) k3' (by omega) he'
theorem A_lit (hst : l.stackTraces = false) (hIH : ∀ p', p < p' → xSp l E w wm dm al ch n hf s0 x0 nw na K0 p') (h : pIn E w ch n x0 nw na K0 p o ca cap c vs A B X s f) (hX : X.length ≤ 6 * o + 5) (h3 : (tk ch n p).1 = 3) (h91 : (tk ch n p).2.2.1 = 91) (hd : 20 * (10 - o) + 32 ≤ d)
    (hok : ∀ v s' f', pOk l E w wm dm al ch n hf s0 x0 nw na p o ca cap c vs O A B X s f (fun q _ => q = (1, 0)) (7 * (10 - o) + 1) v s' f' → Q (.inl (some (.ref v))) s' f') (hbad : ∀ s' f', pBad l E wm dm al ch n hf s0 K0 p o c vs O B X s s' f' → Q (.inr 1) s' f') : EvC l E w d MX11_atom [.ref x0] s f Q := by
  have hm := h.nums
  have hsc := h.1
  have ht := hsc.tk
  have hr := h.2.2.1
  have hX2 := h.2.2.2.2.2.1
  have hX1 := h.2.2.2.2.1
  have hfb := h.2.2.2.1
  have hp1 := ht.1.2.1
  have hp2 := ht.2.2.2.2 (by omega)
  obtain ⟨d, rfl⟩ : ∃ d', d = d' + 7 + 1 + 1 := ⟨d - 9, by omega⟩
  have M0 := pM.init (l := l) (wm := wm) (dm := dm) (al := al) (hf := hf) (s0 := s0) (O := O) h
  refine eR11_atom hst ⟨hr.1.1, hr.1.2.1, fun y ey => ⟨hr.1.1, hr.1.2.1, bn_eq (tk ch n p).1 2 (fun _ => ?_) (fun z => absurd z (by omega)) hsc.2.1.1.1 rfl⟩⟩
  rw [hsc.2.1.1.2.1] at ey
  subst ey
  refine ⟨hr.1.1, hr.1.2.1, C_is hst (c := 40) hsc.2.1.1 ht.1.1 ht.2.2.2.1 (by decide) ⟨_, rfl, pk_b (fun _ => ⟨hr.1.1, hr.1.2.1, ?_⟩) (fun z => absurd z.2 (by omega))⟩⟩
  refine C_is hst (c := 91) hsc.2.1.1 ht.1.1 ht.2.2.2.1 (by decide) ⟨_, rfl, pk_b (fun z => absurd ⟨h3, h91⟩ z) (fun _ => ⟨hr.1.1, ?_⟩)⟩
  refine eR11_literal hst ⟨by unfold rmF; omega, fun N f1 eN e1 => ?_⟩
  subst eN
  have g1 : gE [] f f1 := by rw [e1]; exact gE.new _ _
  have o1 : oc f1 f.1 16 := by rw [e1]; exact oc_new _ _
  have z1 : f1.1 = f.1 + 1 ∧ f1.2.1 = f.2.1 + 3 := by rw [e1]; exact ⟨rfl, rfl⟩
  refine I_lit (lo := f.1) hst o1 (by omega) (by rw [g1.2.1]; exact hfb) (by omega) (by omega) (fun f2 q a1 a2 a3 hn g2 o2 v2 _ z2 => ⟨rfl, ?_⟩)
  have g02 : gE [] f f2 := g1.own g2 (Nat.le_refl _)
  have M2 := M0.heap h g02 (fun a ha => absurd ha List.not_mem_nil)
  have hr2 := M2.2.1.2.1
  have hk2 := M2.kc h
  have hl2 := g2.1
  have fin : ∀ s3 f1, oc f1 f.1 16 → f1.2.2.2 ≤ f.1 → (∀ f2, f2 = fset f1 f.1 165 (.int (nI (tk ch n p).2.1)) → pOk l E w wm dm al ch n hf s0 x0 nw na p o ca cap c vs O A B X s f (fun q _ => q = (1, 0)) (7 * (10 - o) + 1) f.1 s3 f2) → ∃ a59 : Nat, (some (Value.ref f.1) : Option Value) = some (.ref a59) ∧ (∃ k61 : Nat, oc f1 a59 k61 ∧ 165 ∈ CF k61 ∧ ¬ k61 = 30 ∧ f1.2.2.2 ≤ a59 ∧ ∀ f60 : RH, f60 = fset f1 a59 165 (.int (nI (tk ch n p).2.1)) → Q (.inl (some (.ref a59))) s3 f60) := fun s3 f1 q1 q2 q3 => ⟨f.1, rfl, 16, q1, by decide, by decide, q2, fun f60 e60 => hok _ _ _ (q3 f60 e60)⟩
  refine ⟨hr2.1.1, hr2.1.2.1, C_takeS hst (c := 91) hsc hk2.1.1 (by decide) (fun z => absurd z (by decide)) (fun z => absurd ⟨h3, h91⟩ z) (fun _ _ _ z s' hF => ?_) (fun _ _ z s' z4 hF => ?_) (fun _ _ z s1 hcf hs1 => ⟨rfl, ?_⟩)⟩
  · exact hbad s' f2 (M2.flt hF (by omega) (by decide) (XB_brk hst h3 h91 z (by omega) (by omega)))
  · have ho : ¬ o = 10 := fun y => z ⟨Or.inr (Or.inl rfl), y⟩
    exact hbad s' f2 (M2.flt hF (by omega) (by decide) ((XF_brk hst h3 h91 (by omega) (by omega) (by omega) (fun y => by omega)).bad (XB_bad0 hst z4 (by rw [List.length_cons]; omega) (by omega))))
  · have ho : ¬ o = 10 := fun y => z ⟨Or.inr (Or.inl rfl), y⟩
    rw [if_pos (by decide)] at hs1
    have ht1 := hs1.tk
    have hp3 := ht1.1.2.1
    refine ⟨hr2.1.1, hr2.1.2.1, C_is hst (c := 93) hs1.2.1.1 ht1.1.1 ht1.2.2.2.1 (by decide) ⟨_, rfl, bn_b (fun y => ?_) (fun y => ?_)⟩⟩
    · have M3 := M2.tok hcf hs1 (XF_brk hst h3 h91 (by omega) (by omega) (by omega) y) (fun _ _ => rfl) (by omega) (Nat.le_refl _)
      refine L_lit (d := d + 7) (N := f.1) (q := q) (A := A) hst hIH h hX (by omega) (by omega) (plc := (tk ch n p).2.1) ?_ ?_ (n - (tk ch n p).2.2.2) _ _ _ _ _ _ _ _ _ _ 0 _ _ _ _ _ (Nat.le_refl _) (pC.start (u := 1) M3 ⟨o2, by omega, Nat.le_refl _, v2, by decide⟩ hn ⟨by omega, by omega, by rw [List.length_nil]; omega, hX1.1⟩) (by omega) (fun k hk => absurd hk (Nat.not_lt_zero _))
      · exact fin
      · exact hbad
    · have hp4 := ht1.2.2.2.2 (by omega)
      refine vR11_literal_35 ⟨fun _ => ⟨hr2.1.1, hr2.1.2.1, C_takeS hst (c := 93) hs1 hk2.1.1 (by decide) (fun _ => by omega) (fun z => absurd y z) (fun _ _ z => absurd z (by decide)) (fun _ _ _ s' z4 hF => ?_) (fun _ _ _ s3 hcf3 hs3 => ⟨rfl, fin s3 f2 o2 (by rw [g02.2.1]; exact hfb) (fun f4 e4 => ?_)⟩)⟩, fun z => absurd rfl z⟩
      · exact hbad s' f2 (M2.flt ⟨hcf.trans hF.1, hF.2⟩ (by omega) (by decide) ((XF_brk0 hst h3 h91 (by omega) (by omega) (by omega) y).bad (XB_bad hst z4 (by omega) (by omega) (fun x hx => hm.2.2.2.2.2.2.1 x hx))))
      · rw [if_neg (by decide), if_pos (by decide)] at hs3
        have M3 := M2.tok (hcf.trans hcf3) hs3 (XF_brk0 hst h3 h91 (by omega) (by omega) (by omega) y) (fun i hi => oup_ne _ _ (by omega)) (by omega) (by omega)
        have C1 := pC.start (u := 0) (gm := 7 * (10 - o)) (wg := fun k => k) M2 ⟨o2, by omega, Nat.le_refl _, v2, by decide⟩ hn ⟨by omega, by omega, by rw [List.length_nil]; omega, hX1.1⟩
        exact fin_lit C1 h (by omega) (fun k hk => absurd hk (Nat.not_lt_zero _)) (by omega) (by omega) M3 e4
end PL
