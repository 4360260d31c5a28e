/-! ATOMS: built-ins -/
section BI
variable {l : Launch} {E : EN} {w : CO} {wm : MO} {dm d : Nat} {al : Int32} {ch : Nat → Nat} {n hf : Nat} {s0 : MS} {x0 nw na K0 lo pc p o ca cap c gm p1 o1 ca1 cap1 c1 p2 p3 o2 c2 K fl N q u u' r m k pl : Nat} {vs vs1 : List Nat} {O O1 O2 : Nat → Od} {A A0 dA : List (Nat × Nat × Nat)} {B : List Tok} {dC : List CE} {X X1 X2 : List XE} {s s1 s2 s3 : CS} {f f1 f2 : RH} {q1 q2 : Nat × Nat} {wg V cc e : Nat → Nat} {S L : Nat → Int32} {Q : KO → CS → RH → Prop}
theorem pmst_bsu {b m : Nat} (hb : b < 28) (h : m = pmst b ∨ (b = 5 ∧ m ≤ 6)) : bsu b m := by
  unfold bsu; unfold pmst at h
  split at h
  · omega
  · split at h <;> omega
theorem up_eq {e cc : Nat → Nat} {m b : Nat} (he : ∀ k, k < m → e k = cc (k + 1)) : ∀ k, k < m + 1 → up e m b k = up cc (m + 1) b (k + 1) := by
  intro k hk
  by_cases ek : k = m
  · subst ek; rw [up_at, up_at]
  · rw [up_ne _ _ ek, up_ne _ _ (by omega)]; exact he k (by omega)
theorem fin_bi (h : pC l E w wm dm al ch n hf s0 x0 nw na f.1 p p o ca cap c vs O A B X s f 18 173 N q u 0 gm (fun k => k) q1 p1 o1 ca1 cap1 c1 vs1 O1 dC dA X1 s1 f1 m V S L cc e) (hmu : m ≤ u) (he : ∀ k, k < m → e k = cc (k + 1)) (hm : 2 * m + p ≤ p1) (hp : p1 < p3) {plc b : Nat} (v2 : vl f1 N 165 = .int (nI plc)) (v3 : vl f1 N 172 = .int (nI b)) (hbs : bsu b m) (M : pM l E w wm dm al ch n hf s0 x0 nw na f.1 p p o ca cap c vs O A B X s f (1, 0) p3 o ca1 cap1 (c1 + 1) vs1 (oup O1 (4000 * (1 - hf) + c1) (8, b, m, 0, nI plc)) dC dA X s3 f1) : pOk l E w wm dm al ch n hf s0 x0 nw na p o ca cap c vs O A B X s f (fun q _ => q = (1, 0)) (gm + 1) N s3 f1 := by
  have h' := h
  obtain ⟨h1, ⟨o2, n2, n3, w2, n5⟩, a1, a2, a3, capN, -, -, j5, j6, j7, j8, j9, j10⟩ := h
  have hpn := M.1.2.2.1.2.1
  refine M.ok rfl ⟨by omega, 18, o2.1, by decide⟩ ?_ ⟨by omega, by omega, by omega, by omega⟩
  intro f' P F M nv' t1 t2 t3 t4 t5
  have hc1 := h1.2.2.2.2.2.2.1
  obtain ⟨⟨kn, -⟩, ⟨kc0, kcm⟩, kk⟩ := h'.kids (by omega) (Nat.le_refl f1.1) t1 t2 (fun i i1 i2 => by have := t3 i i1 (by omega); rw [oup_ne _ _ (by omega)] at this; exact this) t4 t5
  have ep := (t3 (4000 * (1 - hf) + c1) (by omega) (by omega)).eq (by rw [oup_at]; exact Nat.ne_of_beq_eq_false rfl) (by rw [oup_at]; exact Nat.ne_of_beq_eq_false rfl)
  rw [oup_at] at ep
  have hh : hN p p1 ≤ hN p p3 := hN_le (Nat.le_refl _) (by omega)
  refine ⟨N, nI plc, rfl, by omega, by rw [t2.vl n3 n2 o2 (by decide)]; exact v2, hN_1 _ _, Or.inr (Or.inr (Or.inr (Or.inr (Or.inr (Or.inr (Or.inl ⟨t2.oc n3 n2 o2, q, m, b, 0, fun k => .ref (V k), cc, by rw [t2.vl n3 n2 o2 (by decide)]; exact w2, by rw [t2.vl n3 n2 o2 (by decide)]; exact v3, kn, hbs, by unfold hN; omega, kc0, fun k hk => ⟨hN p p1 - k, ?_, ?_⟩, by rw [kcm]; exact ep, by rw [kcm]; omega⟩))))))⟩
  · have h9 : k ≤ hN p p1 := (kk k hk).1.1
    omega
  · rw [← he k hk]; exact (kk k hk).2
/-- the parts of a built-in -/
theorem L_bi (hst : l.stackTraces = false) (hIH : ∀ p', p < p' → xSp l E w wm dm al ch n hf s0 x0 nw na K0 p') (hi : pIn E w ch n x0 nw na K0 p o ca cap c vs A B X s f) (hX : X.length ≤ 6 * o + 5) (ho : o < 10) (hd : 20 * (10 - o) + 20 ≤ d) {plc b nm : Nat} (hb28 : b < 28)
    (hok : ∀ s3 f1, pOk l E w wm dm al ch n hf s0 x0 nw na p o ca cap c vs O A B X s f (fun q _ => q = (1, 0)) (7 * (10 - o) + 1) N s3 f1 → Q (.inl none) s3 f1) (hbad : ∀ s' f', pBad l E wm dm al ch n hf s0 K0 p o c vs O B X s s' f' → Q (.inr 1) s' f') :
    ∀ b' p1 ca1 cap1 c1 vs1 O1 dC dA s1 f1 m V S L cc e, n - p1 ≤ b' → pC l E w wm dm al ch n hf s0 x0 nw na f.1 p p o ca cap c vs O A B X s f 18 173 N q (m + 1) 0 (7 * (10 - o)) (fun k => k) (0, 0) p1 (o + 1) ca1 cap1 c1 vs1 O1 dC dA ((7, b, m, plc, nm, plc) :: X) s1 f1 m V S L cc e → p + 1 + 2 * m ≤ p1 → (∀ k, k < m → e k = cc (k + 1)) → m < pmst b → vl f1 N 165 = .int (nI plc) → vl f1 N 172 = .int (nI b) → ExC l E w (d + 1) MX11_parts 19 [some (.ref x0), some (.ref q), some (.int (nI (if b = 5 then 0 else pmst b))), some (.int (nI (pmst b))), some (.int 1)] [] s1 f1 Q := by
  have hp6 : 1 ≤ pmst b ∧ pmst b ≤ 6 ∧ (¬ b = 5 → pmst b ≤ 2) := by unfold pmst; split <;> (try split) <;> omega
  intro b'
  obtain ⟨d, rfl⟩ : ∃ d', d = d' + 7 := ⟨d - 7, by omega⟩
  induction b' with
  | zero =>
    intro p1 ca1 cap1 c1 vs1 O1 dC dA s1 f1 m V S L cc e hb h hp he hmp v165 v172
    refine vR11_parts_19 ⟨fun z => absurd z (by decide), fun _ => ?_⟩
    refine h.list (G := _) hst (hIH p1 (by omega)) hi (by have := hi.2.2.2.2.1.2.2.2; omega) (by omega) (by omega) (by omega) (by omega) (by show m ≤ p1; omega) (by show 3 ≤ 7; omega) (by omega) (by omega) (by show p + 2 * m ≤ p1; omega) (by omega) (fun v f3 p2 vs2 O2 c2 dC2 dA2 ca2 cap2 q2 s2 k1 k2 k3 k4 => ?_) hbad
    have := k1.1.1.2.2.1.2.1
    omega
  | succ b' ih =>
    intro p1 ca1 cap1 c1 vs1 O1 dC dA s1 f1 m V S L cc e hb h hp he hmp v165 v172
    refine vR11_parts_19 ⟨fun z => absurd z (by decide), fun _ => ?_⟩
    have hA2 := hi.2.2.2.2.1.2.2.2
    refine h.list (G := _) hst (hIH p1 (by omega)) hi (by omega) (by omega) (by omega) (by omega) (by omega) (by show m ≤ p1; omega) (by show 3 ≤ 7; omega) (by omega) (by omega) (by show p + 2 * m ≤ p1; omega) (by omega) (fun v f3 p2 vs2 O2 c2 dC2 dA2 ca2 cap2 q2 s2 k1 k2 k3 k4 => ?_) hbad
    have he' := up_eq (b := 4000 * (1 - hf) + c2) he
    have I2 := k1.inn hi (by omega) (by omega) (by omega) (by omega) (by show m ≤ p2; omega)
    have hm2 := I2.nums
    have hs2 := I2.1
    have hr2 := I2.2.2.1
    have ht2 := hs2.tk
    have w165 : vl f3 N 165 = .int (nI plc) := by rw [(cellE k3).2.2]; exact v165
    have w172 : vl f3 N 172 = .int (nI b) := by rw [(cellE k3).2.2]; exact v172
    have hXl : ((7, b, m, plc, nm, plc) :: X).length = X.length + 1 := rfl
    have hn9 : m < 9999 := by omega
    have hwk : wk (tk ch n p2) = 2 := if_neg hs2.2.1.2.2
    have hp3 := ht2.1.2.1
    have hq17 : oc f3 q 17 ∧ vl f3 q 171 = .int (nI (m + 1)) := by
      obtain ⟨-, -, a1, a2, a3, capN, hn, -⟩ := k1
      exact ⟨hn.1.1, hn.1.2.2.2.2.1⟩
    have hb30 : b < 30 := by omega
    have nxt : (tk ch n p2).1 = 3 → (tk ch n p2).2.2.1 = 44 → ¬ m + 1 = pmst b → (oc f3 x0 11 ∧ vl f3 x0 147 = .ref (w.1 2) ∧ (EvC l E w (d + 7) MX2_next [.ref (w.1 2)] s2 f3 (fun o s25 f26 => KP o (fun r => r = none ∧ ExC l E w (d + 7 + 1) MX11_parts 19 [some (.ref x0), some (.ref q), some (.int (nI (if b = 5 then 0 else pmst b))), some (.int (nI (pmst b))), some (.int (bI (decide ((tk ch n p2).1 = 3 ∧ (tk ch n p2).2.2.1 = 44))))] [] s25 f26 Q) (fun k => Q (.inr k) s25 f26)))) := by
      intro z1 z2 z3
      have hp4 := ht2.2.2.2.2 (by omega)
      have xc := XF_comma (l := l) (E := E) (w := wm) (d := dm) (al := al) (ch := ch) (n := n) (hf := hf) (s0 := s0) (q := q2) (p := p2) (o := o + 1) (vs := vs2) (O := O2) (c := c2) (B := B ++ (dC ++ dC2).map toB) (X := X) (x := (7, b, m, plc, nm, plc)) hst k2 (by omega) (by omega) (by show 5 ≤ 7; omega) (Or.inl (by show 7 ≤ 7; omega)) (fun _ => hb30) hn9 (fun y => by have y : pmst b ≤ m + 1 := y.2; omega) z1 z2
      refine ⟨hr2.1.1, hr2.1.2.1, C_nextS hst hs2 I2.2.1.1 (fun s' z4 hF => hbad s' f3 (k1.1.flt hF (by omega) (by decide) (xc.bad (XB_bad0 hst z4 (by show X.length + 1 ≤ 74; omega) (by omega))))) (fun s3 hcf3 hs3 => ⟨rfl, ?_⟩)⟩
      have k3' := k1.tok (u' := 1) hcf3 hs3 xc (by omega) (by omega)
      rw [decide_eq_true ⟨z1, z2⟩]
      exact ih _ _ _ _ _ _ _ _ _ _ _ _ _ _ _ _ (by have := hs3.2.1.2.1; omega) k3' (by omega) he' (by omega) w165 w172
    have tkc : ((tk ch n p2).1 = 3 → (tk ch n p2).2.2.1 = 41 → (b = 5 ∨ m + 1 = pmst b)) → ¬ ((tk ch n p2).1 = 3 ∧ (tk ch n p2).2.2.1 = 44) → EvC l E w (d + 7) MX2_take [.ref (w.1 2), .int 41] s2 f3 (fun o s10 f11 => KP o (fun r => r = none ∧ Q (.inl none) s10 f11) (fun k => Q (.inr k) s10 f11)) := by
      intro hb5 z
      refine C_takeS hst (c := 41) hs2 I2.2.1.1 (by decide) (fun _ => by omega) (fun y s' hF => hbad s' f3 (k1.1.flt hF (by omega) (by decide) ?_)) (fun _ _ y => absurd y (by decide)) (fun e3 e4 _ s' z4 hF => hbad s' f3 (k1.1.flt hF (by omega) (by decide) ?_)) (fun e3 e4 _ s3 hcf3 hs3 => ⟨rfl, hok s3 f3 ?_⟩)
      · rw [← hwk]
        exact XB_call hst k2 (by omega) (by omega) (by omega) (by show 6 ≤ 7; omega) (fun _ => hb30) (fun y => by have y : 7 = 8 := y; omega) hn9 (by omega) y (Or.inr z)
      · exact (XF_built hst k2 (by omega) (by omega) (by omega) rfl hb30 (hb5 e3 e4) hn9 (by omega) e3 e4).bad (XB_bad hst z4 (by omega) (by rw [hXl] at hm2; omega) (fun x hx => hi.nums.2.2.2.2.2.2.1 x hx))
      · rw [if_neg (by decide), if_pos (by decide)] at hs3
        have hp4 := ht2.2.2.2.2 (by omega)
        have M3 := k1.1.tok hcf3 hs3 (XF_built hst k2 (by omega) (by omega) (by omega) rfl hb30 (hb5 e3 e4) hn9 (by omega) e3 e4) (fun i hi => oup_ne _ _ (by omega)) (by omega) (by omega)
        exact fin_bi k1 (by omega) he' (by omega) (by omega) w165 w172 (pmst_bsu hb28 (by have := hb5 e3 e4; omega)) M3
    refine pk_b (fun z => ⟨fun _ => ?_, fun y => absurd (by rw [decide_eq_false z]; rfl) y⟩) (fun z => ⟨hq17.1, nI (m + 1), hq17.2, ?_⟩)
    · rw [decide_eq_false z]
      refine vR11_parts_19 ⟨fun _ => ⟨hr2.1.1, hr2.1.2.1, ?_⟩, fun y => absurd rfl y⟩
      refine C_is hst (c := 41) hs2.2.1.1 ht2.1.1 ht2.2.2.2.1 (by decide) ⟨_, rfl, pk_b (fun y => ⟨hr2.1.1, hr2.1.2.1, tkc (fun y1 y2 => absurd ⟨y1, y2⟩ y) z⟩) (fun y => ⟨hq17.1, nI (m + 1), hq17.2, ?_⟩)⟩
      refine pk_le (if b = 5 then 0 else pmst b) (m + 1) (fun q3 => ⟨hr2.1.1, hr2.1.2.1, tkc (fun _ _ => ?_) z⟩) (fun q3 => ⟨hr2.1.1, hr2.1.2.1, hr2.1.1, hr2.1.2.1, ?_⟩) rfl rfl (by split <;> omega) (by omega)
      · split at q3 <;> omega
      · refine eX2_wrong hst ⟨rfl, hbad _ _ (k1.1.flt (k := 5) (pl := (tk ch n p2).2.1) ⟨(cfP.uI _ 14 _).trans (cfP.uI _ 15 _), rfl, hs2.2.1.1.2.1⟩ (by omega) (by decide) ?_)⟩
        exact XB_few hst k2 (by omega) (by omega) (by omega) rfl hb30 (fun y => by have y : b = 5 ∨ m + 1 = pmst b := y; split at q3 <;> omega) hn9 (by omega) y.1 y.2
    · refine bn_eq (m + 1) (pmst b) (fun q3 => ?_) (fun q3 => ⟨hr2.1.1, hr2.1.2.1, hr2.1.1, hr2.1.2.1, ?_⟩) rfl rfl
      · refine ⟨fun y => absurd y (by rw [decide_eq_true z]; decide), fun _ => nxt z.1 z.2 q3⟩
      · refine eX2_wrong hst ⟨rfl, hbad _ _ (k1.1.flt (k := 5) (pl := (tk ch n p2).2.1) ⟨(cfP.uI _ 14 _).trans (cfP.uI _ 15 _), rfl, hs2.2.1.1.2.1⟩ (by omega) (by decide) ?_)⟩
        exact XB_many hst k2 (by omega) (by omega) rfl hb30 hn9 (by show pmst b ≤ m + 1; omega) z.1 z.2
/-- a built-in -/
theorem A_bi (hst : l.stackTraces = false) (hIH : ∀ p', p < p' → xSp l E w wm dm al ch n hf s0 x0 nw na K0 p') (h : pIn E w ch n x0 nw na K0 p o ca cap c vs A B X s f) (hX : X.length ≤ 6 * o + 5) (h1 : (tk ch n p).1 = 1) (hw : 11 ≤ kw (tk ch n p)) (hw2 : kw (tk ch n p) < 39) (hd : 20 * (10 - o) + 30 ≤ d)
    (hok : ∀ v s' f', pOk l E w wm dm al ch n hf s0 x0 nw na p o ca cap c vs O A B X s f (fun q _ => q = (1, 0)) (7 * (10 - o) + 1) v s' f' → Q (.inl (some (.ref v))) s' f') (hbad : ∀ s' f', pBad l E wm dm al ch n hf s0 K0 p o c vs O B X s s' f' → Q (.inr 1) s' f') : EvC l E w d MX11_builtIn_2 [.ref x0, .int (nI (kw (tk ch n p) - 11)), .int (nI (tk ch n p).2.1)] s f Q := by
  have hm := h.nums
  have hsc := h.1
  have ht := hsc.tk
  have hr := h.2.2.1
  have hX2 := h.2.2.2.2.2.1
  have hX1 := h.2.2.2.2.1
  have hfb := h.2.2.2.1
  have hp1 := ht.1.2.1
  have hp2 := ht.2.2.2.2 (by omega)
  obtain ⟨d, rfl⟩ : ∃ d', d = d' + 7 + 1 + 1 := ⟨d - 9, by omega⟩
  have M0 := pM.init (l := l) (wm := wm) (dm := dm) (al := al) (hf := hf) (s0 := s0) (O := O) h
  refine eR11_builtIn_2 hst ⟨by unfold rmF; omega, fun N f1 eN e1 => ?_⟩
  subst eN
  have g1 : gE [] f f1 := by rw [e1]; exact gE.new _ _
  have o1 : oc f1 f.1 18 := by rw [e1]; exact oc_new _ _
  have z1 : f1.1 = f.1 + 1 ∧ f1.2.1 = f.2.1 + 4 := by rw [e1]; exact ⟨rfl, rfl⟩
  refine I_bi (lo := f.1) hst o1 (by omega) (by rw [g1.2.1]; exact hfb) (by omega) (by omega) (fun f2 q a1 a2 a3 hn2 g2 o2 v2 w2 _ z2 => ⟨rfl, 18, o2, by decide, by decide, by rw [g2.2.1, g1.2.1]; exact hfb, fun f3 e3 => ?_⟩)
  have hl2 := g2.1
  have g3 : gE [f.1] f2 f3 := by rw [e3]; exact gE.set _ _ _
  have o3 : oc f3 f.1 18 := by rw [e3]; exact set_oc o2
  have v3 : vl f3 f.1 165 = .int (nI (tk ch n p).2.1) := by rw [e3]; exact set_vl o2.1
  have w3 : vl f3 f.1 173 = .ref q ∧ vl f3 f.1 172 = .int (nI (kw (tk ch n p) - 11)) := by rw [e3]; exact ⟨(set_vn o2.1 (by decide)).trans v2, (set_vn o2.1 (by decide)).trans w2⟩
  have z3 : f3.1 = f2.1 ∧ f3.2.1 = f2.2.1 := by rw [e3]; exact ⟨rfl, rfl⟩
  have hn3 : NsB f3 f.1 q a1 a2 a3 2 0 (fun _ => 0) (fun _ => 0) (fun _ => 0) := hn2.keep g3 (fun a ha _ => by
    rw [List.mem_singleton.mp ha]
    obtain ⟨⟨c1, -⟩, ⟨-, -, -, -, c15, -⟩, ⟨-, -, -, -, c25, -⟩, ⟨-, -, -, -, c35, -⟩, -⟩ := hn2
    have tN := o2.1
    refine ⟨fun z => ?_, fun z => ?_, fun z => ?_, fun z => ?_⟩
    · rw [z, c1.1] at tN; cases tN
    · rw [z, c15] at tN; cases tN
    · rw [z, c25] at tN; cases tN
    · rw [z, c35] at tN; cases tN)
  have g03 : gE [] f f3 := (g1.own g2 (Nat.le_refl _)).own g3 (Nat.le_refl _)
  have M3 := M0.heap h g03 (fun a ha => absurd ha List.not_mem_nil)
  have hr3 := M3.2.1.2.1
  have hk3 := M3.kc h
  have hwk : ∀ p', ¬ (tk ch n p').1 = 4 → wk (tk ch n p') = 2 := fun p' z => if_neg z
  refine ⟨hr3.1.1, hr3.1.2.1, C_nextS hst hsc hk3.1.1 (fun s' z4 hF => hbad s' f3 (M3.flt hF (by omega) (by decide) ?_)) (fun s1 hcf1 hs1 => ⟨rfl, hr3.1.1, hr3.1.2.1, ?_⟩)⟩
  · have := XB_word (l := l) (E := E) (w := wm) (d := dm) (al := al) (hf := hf) (s0 := s0) (o := o) (vs := vs) (O := O) (c := c) (B := B ++ ([] : List CE).map toB) (X := X) hst rfl rfl h1 hw (fun z => by omega) (fun z => by omega) (by omega) (by omega) (by rw [List.map_nil, List.append_nil]; omega)
    have w1 : wk (tk ch n (tk ch n p).2.2.2) = 1 := if_pos z4
    rw [w1] at this
    exact this
  have ht1 := hs1.tk
  refine C_takeS hst (c := 40) hs1 hk3.1.1 (by decide) (fun z => absurd z (by decide)) (fun z s' hF => hbad s' f3 (M3.flt ⟨hcf1.trans hF.1, hF.2⟩ (by omega) (by decide) ?_)) (fun e3 e4 _ z s' hF => hbad s' f3 (M3.flt ⟨hcf1.trans hF.1, hF.2⟩ (by omega) (by decide) ?_)) (fun e3 e4 z s' z4 hF => hbad s' f3 (M3.flt ⟨hcf1.trans hF.1, hF.2⟩ (by omega) (by decide) ?_)) (fun e3 e4 z s2 hcf2 hs2 => ⟨rfl, o3, q, w3.1, ?_⟩)
  · rw [← hwk _ hs1.2.1.2.2]
    exact XB_word hst rfl rfl h1 hw (fun z => by omega) z (by omega) (by omega) (by rw [List.map_nil, List.append_nil]; omega)
  · exact XB_wdeep hst rfl rfl h1 hw ⟨e3, e4⟩ z (by omega) (by omega) (by rw [List.map_nil, List.append_nil]; omega)
  · have ho : ¬ o = 10 := fun y => z ⟨Or.inl rfl, y⟩
    exact (XF_bname hst rfl rfl rfl h1 hw hw2 ⟨e3, e4⟩ (by omega) (fun y => by omega) (by omega) (by omega) (by rw [List.map_nil, List.append_nil]; omega)).bad (XB_bad0 hst z4 (by rw [List.length_cons]; omega) (by omega))
  have ho : ¬ o = 10 := fun y => z ⟨Or.inl rfl, y⟩
  rw [if_pos (by decide)] at hs2
  have ht2 := hs2.tk
  have hp3 := ht1.1.2.1
  have hp4 := ht1.2.2.2.2 (by omega)
  have hp5 := ht2.1.2.1
  -- the parts
  have par : EvC l E w (d + 7 + 1) MX11_parts [.ref x0, .ref q, .int (nI (if kw (tk ch n p) - 11 = 5 then 0 else pmst (kw (tk ch n p) - 11))), .int (nI (pmst (kw (tk ch n p) - 11)))] s2 f3 (fun o s16 f17 => KP o (fun r => r = none ∧ Q (.inl (some (.ref f.1))) s16 f17) (fun k => Q (.inr k) s16 f17)) := by
    have hp6 : 1 ≤ pmst (kw (tk ch n p) - 11) ∧ pmst (kw (tk ch n p) - 11) ≤ 6 := by unfold pmst; split <;> (try split) <;> omega
    refine eR11_parts hst ⟨hr3.1.1, hr3.1.2.1, C_is hst (c := 41) hs2.2.1.1 ht2.1.1 ht2.2.2.2.1 (by decide) ⟨_, rfl, bn_b (fun y => ?_) (fun y => ?_)⟩⟩
    · have M4 := M3.tok (hcf1.trans hcf2) hs2 (XF_bname hst rfl rfl rfl h1 hw hw2 ⟨e3, e4⟩ (by omega) y (by omega) (by omega) (by rw [List.map_nil, List.append_nil]; omega)) (fun _ _ => rfl) (by omega) (Nat.le_refl _)
      refine L_bi (d := d + 7) (N := f.1) (q := q) (A := A) hst hIH h hX (by omega) (by omega) (by omega) ?_ ?_ (n - (tk ch n (tk ch n p).2.2.2).2.2.2) _ _ _ _ _ _ _ _ _ _ 0 _ _ _ _ _ (Nat.le_refl _) (pC.start (u := 1) M4 ⟨o3, by omega, Nat.le_refl _, w3.1, by decide⟩ hn3 ⟨by omega, by omega, by rw [List.length_nil]; omega, hX1.1⟩) (by omega) (fun k hk => absurd hk (Nat.not_lt_zero _)) (by omega) v3 w3.2
      · exact fun s3 f1 k => ⟨rfl, hok _ _ _ k⟩
      · exact hbad
    · have hp7 := ht2.2.2.2.2 (by omega)
      refine vR11_parts_19 ⟨fun _ => ⟨hr3.1.1, hr3.1.2.1, ?_⟩, fun y => absurd rfl y⟩
      refine C_is hst (c := 41) hs2.2.1.1 ht2.1.1 ht2.2.2.2.1 (by decide) ⟨_, rfl, pk_b (fun y' => absurd y y') (fun _ => ⟨hn3.1.1, nI 0, hn3.1.2.2.2.2.1, ?_⟩)⟩
      refine pk_le (if kw (tk ch n p) - 11 = 5 then 0 else pmst (kw (tk ch n p) - 11)) 0 (fun q3 => ⟨hr3.1.1, hr3.1.2.1, ?_⟩) (fun q3 => ⟨hr3.1.1, hr3.1.2.1, hr3.1.1, hr3.1.2.1, ?_⟩) rfl rfl (by split <;> omega) (by omega)
      · have h16 : kw (tk ch n p) = 16 := by split at q3 <;> omega
        refine C_takeS hst (c := 41) hs2 hk3.1.1 (by decide) (fun _ => by omega) (fun z => absurd y z) (fun _ _ z => absurd z (by decide)) (fun _ _ _ s' z4 hF => ?_) (fun _ _ _ s3 hcf3 hs3 => ⟨rfl, rfl, hok f.1 s3 f3 ?_⟩)
        · exact hbad s' f3 (M3.flt ⟨(hcf1.trans hcf2).trans hF.1, hF.2⟩ (by omega) (by decide) ((XF_bname0 hst rfl rfl rfl h1 h16 ⟨e3, e4⟩ (by omega) y (by omega) (by omega) (by rw [List.map_nil, List.append_nil]; omega)).bad (XB_bad hst z4 (by omega) (by omega) (fun x hx => hm.2.2.2.2.2.2.1 x hx))))
        · rw [if_neg (by decide), if_pos (by decide)] at hs3
          have M4 := M3.tok ((hcf1.trans hcf2).trans hcf3) hs3 (XF_bname0 hst rfl rfl rfl h1 h16 ⟨e3, e4⟩ (by omega) y (by omega) (by omega) (by rw [List.map_nil, List.append_nil]; omega)) (fun i hi => oup_ne _ _ (by omega)) (by omega) (by omega)
          have C1 := pC.start (u := 0) (gm := 7 * (10 - o)) (wg := fun k => k) M3 ⟨o3, by omega, Nat.le_refl _, w3.1, by decide⟩ hn3 ⟨by omega, by omega, by rw [List.length_nil]; omega, hX1.1⟩
          have w4 := w3.2
          rw [h16] at w4
          exact fin_bi C1 (by omega) (fun k hk => absurd hk (Nat.not_lt_zero _)) (by omega) (by omega) v3 w4 (Or.inl ⟨rfl, by decide⟩) M4
      · refine eX2_wrong hst ⟨rfl, hbad _ _ (M3.flt (k := 5) (pl := (tk ch n (tk ch n (tk ch n p).2.2.2).2.2.2).2.1) ⟨(hcf1.trans hcf2).trans ((cfP.uI _ 14 _).trans (cfP.uI _ 15 _)), rfl, hs2.2.1.1.2.1⟩ (by omega) (by decide) ?_)⟩
        exact XB_bname0 hst rfl rfl rfl h1 hw hw2 (fun z => by split at q3 <;> omega) ⟨e3, e4⟩ (by omega) y (by omega) (by omega) (by rw [List.map_nil, List.append_nil]; omega)
  obtain ⟨a, ea, ea1, ea2, ea3, ea4⟩ := hk3.1.2.2.2.1
  have cl : (nI (kw (tk ch n p) - 11)).toNatClampNeg = kw (tk ch n p) - 11 := nI_clamp (by omega)
  refine bn_eq (kw (tk ch n p) - 11) 5 (fun y => ?_) (fun y => ?_) rfl rfl
  · rw [cl]
    have hv := ea4 (kw (tk ch n p) - 11) (by omega)
    rw [if_neg y] at par
    exact ⟨a, ea, ea2, by rw [ea3]; exact inB_n (by omega), _, hv, a, ea, ea2, by rw [ea3]; exact inB_n (by omega), _, hv, hr3.1.1, par⟩
  · rw [cl]
    have hv := ea4 (kw (tk ch n p) - 11) (by omega)
    rw [if_pos y] at par
    exact ⟨a, ea, ea2, by rw [ea3]; exact inB_n (by omega), _, hv, hr3.1.1, par⟩
end BI
