/-! ATOMS: calls -/
section CA
variable {l : Launch} {E : EN} {w : CO} {wm : MO} {dm d : Nat} {al : Int32} {ch : Nat → Nat} {n hf : Nat} {s0 : MS} {x0 nw na K0 lo pc p o ca cap c gm p1 o1 ca1 cap1 c1 p2 p3 o2 c2 K fl N q u u' r m k pl nm npl : Nat} {vs vs1 : List Nat} {O O1 O2 O3 : Nat → Od} {A A0 dA : List (Nat × Nat × Nat)} {B : List Tok} {dC : List CE} {X X1 X2 : List XE} {s s1 s2 s3 : CS} {f f1 f2 : RH} {q1 q2 : Nat × Nat} {wg V cc e : Nat → Nat} {S L : Nat → Int32} {Q : KO → CS → RH → Prop}
/-- a call is whole; z: 0, each 28, fold 29 -/
theorem fin_call (h : pC l E w wm dm al ch n hf s0 x0 nw na lo pc p o ca cap c vs O (A ++ [(N, nm, npl)]) B X s f 19 179 N q u 0 gm (fun k => k) q1 p1 o1 ca1 cap1 c1 vs1 O1 dC dA X1 s1 f1 m V S L cc e) (hi : pIn E w ch n x0 nw na K0 p o ca cap c vs A B X s f) (hmu : m ≤ u) (hu1 : p1 + 2 ≤ p3 + u) (he : ∀ k, k < m → e k = cc (k + 1)) (hm : 2 * m + p ≤ p1) (hp : p1 < p3) (hlo : N < lo) (hnp : p ≤ npl ∧ npl < p3) (hpc : ∀ a ∈ dA, npl < a.2.2) (hnm : nm < 27 ^ 8) {plc z j : Nat} (v2 : vl f1 N 165 = .int (nI plc)) (v3 : vl f1 N 174 = .int (nI z)) (v4 : vl f1 N 175 = .long (lN (cv nm))) (v5 : vl f1 N 176 = .int (nI npl)) (v6 : vl f1 N 178 = .null)
    (hf2 : gE [N] f1 f2) (hb2 : f2.1 = f1.1 ∧ f2.2.1 = f1.2.1) (hv2 : ∀ i, ¬ i = 177 → vl f2 N i = vl f1 N i) (w7 : vl f2 N 177 = .int (nI m))
    (hcf : cfP s1 s3) (hs3 : cSc ch n p3 o s3) (hj : 1 ≤ j ∧ j ≤ 2) (hO3 : ∀ i, i < 4000 * (1 - hf) + c1 → O3 i = O1 i) (hx : XF l E wm dm al ch n hf s0 q1 ((p1, o1), vs1, O1, c1, B ++ dC.map toB, X1) (1, 0) ((p3, o), vs1, O3, c1 + j, (B ++ dC.map toB) ++ [(4000 * (1 - hf) + (c1 + j - 1), nm, m, npl)], X))
    (hz : (z = 0 ∧ j = 1 ∧ O3 (4000 * (1 - hf) + c1) = (9, 0, m, 0, nI plc)) ∨ (j = 2 ∧ ((z = 28 ∧ m = 1) ∨ (z = 29 ∧ m = 2)) ∧ O3 (4000 * (1 - hf) + c1) = (10, z, 0, 0, nI plc) ∧ O3 (4000 * (1 - hf) + (c1 + 1)) = (11, z, 0, 0, nI plc))) : pOk l E w wm dm al ch n hf s0 x0 nw na p o ca cap c vs O A B X s f (fun q _ => q = (1, 0)) (gm + 1) N s3 f2 := by
  obtain ⟨n1, n2, n3, n4, n5⟩ := h.2.1
  have o2 : oc f2 N 19 := hf2.oc n1 n2
  have w2 : vl f2 N 179 = .ref q := (hv2 179 (by decide)).trans n4
  have h' := h.own hi hf2 w2 hb2.2 (Or.inr hlo)
  have M1 := h'.1
  obtain ⟨-, -, a1, a2, a3, capN, -, -, j5, j6, j7, j8, j9, j10⟩ := h
  have hpn := hs3.2.1.2.1
  obtain ⟨⟨m1, m2⟩, ⟨m3, m4, m5⟩, m6, m7, m8, ⟨m9, m10, m11, m12, ⟨m13, m13'⟩, ⟨m14, m14'⟩⟩⟩ := M1
  have hlt : N < f2.1 := by omega
  refine ⟨p3, vs1, O3, c1 + j, dC ++ [(N, 4000 * (1 - hf) + (c1 + j - 1), m, nm, npl)], (N, nm, npl) :: dA, ca1, cap1, (1, 0), ⟨m1.trans hcf, hs3⟩, ⟨m3, ?_, m5⟩, ⟨rfl, ?_⟩, ⟨fun i hi => (hO3 i (by omega)).trans (m7 i hi), ⟨hlt, 19, o2.1, by decide⟩, ?_⟩, ⟨fun e0 he0 => ?_, ?_, ?_, fun a ha => ?_⟩, ⟨by omega, by omega, by omega, by rw [List.length_append, List.length_singleton]; omega, m11, by omega, m12⟩⟩
  · have := m4
    rw [List.append_assoc] at this
    exact this
  · rw [List.map_append, ← List.append_assoc]
    exact m6.trans hx
  · intro f' P F M nv' t1 t2 t3 t4 t5
    obtain ⟨⟨kn, -⟩, ⟨kc0, kcm⟩, kk⟩ := h'.kids (by omega) (Nat.le_refl f2.1) t1 t2 (fun i i1 i2 => by have := t3 i i1 (by omega); rw [hO3 i i2] at this; exact this) (fun e0 he0 => t4 e0 (List.mem_append_left _ he0)) t5
    obtain ⟨jj, r1, r2, r3, r4, r5⟩ := t4 (N, 4000 * (1 - hf) + (c1 + j - 1), m, nm, npl) (List.mem_append_right _ (List.mem_singleton.mpr rfl))
    have ag := t2 N n3 hlt (by rw [o2.1]; intro y; cases y)
    have hvl : ∀ i, ¬ i = 178 → vl f' N i = vl f2 N i := fun i hi => ag.2.2 i (fun y => hi y.2)
    have hh : hN p p1 ≤ hN p p3 := hN_le (Nat.le_refl _) (by omega)
    refine ⟨N, nI plc, rfl, by omega, by rw [hvl 165 (by decide), hv2 165 (by decide)]; exact v2, hN_1 _ _, Or.inr (Or.inr (Or.inr (Or.inr (Or.inr (Or.inr (Or.inr ⟨⟨ag.1.trans o2.1, ag.2.1.trans o2.2⟩, q, m, jj, z, 0, fun k => .ref (V k), cc, by rw [hvl 179 (by decide)]; exact w2, by rw [hvl 174 (by decide), hv2 174 (by decide)]; exact v3, r2, r1, kn, r3, by unfold hN; omega, kc0, fun k hk => ⟨hN p p1 - k, ?_, ?_⟩, ?_⟩))))))⟩
    · have h9 : k ≤ hN p p1 := (kk k hk).1.1
      omega
    · rw [← he k hk]; exact (kk k hk).2
    · rw [kcm]
      rcases hz with ⟨z0, z1, z2⟩ | ⟨z1, z0, z2, z3⟩
      · left
        have z1' : c1 + j - 1 = c1 := by omega
        have ep := t3 (4000 * (1 - hf) + c1) (by omega) (by omega)
        rw [z2] at ep
        rw [z1'] at r4
        have r4' := r4 ep.1
        refine ⟨z0, ?_, by omega⟩
        obtain ⟨e1, -, e3, e4⟩ := ep
        have e3 := e3 (Nat.ne_of_beq_eq_false rfl)
        generalize P.1 (4000 * (1 - hf) + c1) = y at *
        obtain ⟨y1, y2, y3, y4⟩ := y
        have r4' : y2 = jj := r4'
        have e1 : y1 = 9 := e1
        have e3 : y3 = m := e3
        have e4 : y4 = (0, nI plc) := e4
        rw [r4', e1, e3, e4]
      · right
        have z1' : c1 + j - 1 = c1 + 1 := by omega
        have ep := t3 (4000 * (1 - hf) + c1) (by omega) (by omega)
        have ep2 := t3 (4000 * (1 - hf) + (c1 + 1)) (by omega) (by omega)
        rw [z2] at ep
        rw [z3] at ep2
        have ep := ep.eq (by exact Nat.ne_of_beq_eq_false rfl) (by exact Nat.ne_of_beq_eq_false rfl)
        rw [z1'] at r5
        have r5' := r5 ep2.1
        refine ⟨0, z, 0, z0, ep, ?_, by omega⟩
        obtain ⟨e1, e2, -, e4⟩ := ep2
        have e2 := e2 (Nat.ne_of_beq_eq_false rfl)
        rw [show 4000 * (1 - hf) + c1 + 1 = 4000 * (1 - hf) + (c1 + 1) by omega]
        generalize P.1 (4000 * (1 - hf) + (c1 + 1)) = y at *
        obtain ⟨y1, y2, y3, y4⟩ := y
        have r5' : y3 = jj := r5'
        have e1 : y1 = 11 := e1
        have e2 : y2 = z := e2
        have e4 : y4 = (0, nI plc) := e4
        rw [r5', e1, e2, e4]
  · rcases List.mem_append.mp he0 with he0 | he0
    · obtain ⟨q1, q2⟩ := m8.1 e0 he0
      exact ⟨⟨by omega, q1.2⟩, q2⟩
    · rw [List.mem_singleton.mp he0]
      exact ⟨⟨n3, hlt⟩, o2, (hv2 175 (by decide)).trans v4, (hv2 176 (by decide)).trans v5, w7, (hv2 178 (by decide)).trans v6, hnm, by show m ≤ 1000; omega⟩
  · rw [List.map_append]
    exact (m8.2.1.cons (N, nm, npl)).trans (List.perm_append_singleton _ _).symm
  · rw [List.map_cons, List.pairwise_cons]
    refine ⟨fun a ha => ?_, m8.2.2.1⟩
    obtain ⟨a', ha', rfl⟩ := List.mem_map.mp ha
    exact hpc a' ha'
  · rcases List.mem_cons.mp ha with rfl | ha
    · show p ≤ npl ∧ npl < p3
      omega
    · have := m8.2.2.2 a ha
      omega
/-- the loop of a call by name -/
theorem L_call (hst : l.stackTraces = false) (hIH : ∀ p', p < p' → xSp l E w wm dm al ch n hf s0 x0 nw na K0 p') (hi : pIn E w ch n x0 nw na K0 p o ca cap c vs A B X s f) (hX : X.length ≤ 6 * o + 5) (ho : o < 10) (hd : 20 * (10 - o) + 20 ≤ d) {plc : Nat} (hlo : N < lo) (hnp : p ≤ plc ∧ plc < pc) (hnm : nm < 27 ^ 8)
    (hok : ∀ s3 f1, pOk l E w wm dm al ch n hf s0 x0 nw na p o ca cap c vs O A B X s f (fun q _ => q = (1, 0)) (7 * (10 - o) + 1) N s3 f1 → Q (.inl (some (.ref N))) s3 f1) (hbad : ∀ s' f', pBad l E wm dm al ch n hf s0 K0 p o c vs O B X s s' f' → Q (.inr 1) s' f') :
    ∀ b p1 ca1 cap1 c1 vs1 O1 dC dA s1 f1 m V S L cc e, n - p1 ≤ b → pC l E w wm dm al ch n hf s0 x0 nw na lo pc p o ca cap c vs O (A ++ [(N, nm, plc)]) B X s f 19 179 N q (m + 2) 0 (7 * (10 - o)) (fun k => k) (0, 0) p1 (o + 1) ca1 cap1 c1 vs1 O1 dC dA ((6, 0, m, plc, nm, plc) :: X) s1 f1 m V S L cc e → p + 2 + 2 * m ≤ p1 → (∀ k, k < m → e k = cc (k + 1)) → vl f1 N 165 = .int (nI plc) → vl f1 N 174 = .int (nI 0) → vl f1 N 175 = .long (lN (cv nm)) → vl f1 N 176 = .int (nI plc) → vl f1 N 178 = .null → ExC l E w (d + 1) MX11_call 182 [some (.ref x0), none, none, some (.ref N), some (.int 1)] [] s1 f1 Q := by
  intro b
  obtain ⟨d, rfl⟩ : ∃ d', d = d' + 7 := ⟨d - 7, by omega⟩
  have hA2 := hi.2.2.2.2.1.2.2.2
  have hAl : (A ++ [(N, nm, plc)]).length = A.length + 1 := by rw [List.length_append]; rfl
  induction b with
  | zero =>
    intro p1 ca1 cap1 c1 vs1 O1 dC dA s1 f1 m V S L cc e hb h hp he v1 v2 v3 v4 v5
    refine vR11_call_182 ⟨fun z => absurd z (by decide), fun _ => ⟨h.2.1.1, q, h.2.1.2.2.2.1, ?_⟩⟩
    refine h.list (G := _) hst (hIH p1 (by omega)) hi (by omega) (by omega) (by omega) (by omega) (by omega) (by show m ≤ p1; omega) (by show 3 ≤ 6; omega) (by omega) (by omega) (by show p + 2 * m ≤ p1; omega) (by omega) (fun v f3 p2 vs2 O2 c2 dC2 dA2 ca2 cap2 q2 s2 k1 k2 k3 k4 => ?_) hbad
    have := k1.1.1.2.2.1.2.1
    omega
  | succ b ih =>
    intro p1 ca1 cap1 c1 vs1 O1 dC dA s1 f1 m V S L cc e hb h hp he v1 v2 v3 v4 v5
    refine vR11_call_182 ⟨fun z => absurd z (by decide), fun _ => ⟨h.2.1.1, q, h.2.1.2.2.2.1, ?_⟩⟩
    refine h.list (G := _) hst (hIH p1 (by omega)) hi (by omega) (by omega) (by omega) (by omega) (by omega) (by show m ≤ p1; omega) (by show 3 ≤ 6; omega) (by omega) (by omega) (by show p + 2 * m ≤ p1; omega) (by omega) (fun v f3 p2 vs2 O2 c2 dC2 dA2 ca2 cap2 q2 s2 k1 k2 k3 k4 => ?_) hbad
    have he' := up_eq (b := 4000 * (1 - hf) + c2) he
    have I2 := k1.inn hi (by omega) (by omega) (by omega) (by omega) (by show m ≤ p2; omega)
    have hm2 := I2.nums
    have hs2 := I2.1
    have hr2 := I2.2.2.1
    have ht2 := hs2.tk
    have cN := (cellE k3).2.2
    have hXl : ((6, 0, m, plc, nm, plc) :: X).length = X.length + 1 := rfl
    have h12 := hi.2.2.2.2.1.1
    have hpn := hs2.2.1.2.1
    have hn9 : m < 9999 := by omega
    have hwk : wk (tk ch n p2) = 2 := if_neg hs2.2.1.2.2
    have hp3 := ht2.1.2.1
    have hq17 : oc f3 q 17 ∧ vl f3 q 171 = .int (nI (m + 1)) := by
      obtain ⟨-, -, a1, a2, a3, capN, hn, -⟩ := k1
      exact ⟨hn.1.1, hn.1.2.2.2.2.1⟩
    refine pk_b (fun z => ?_) (fun z => ?_)
    · rw [decide_eq_false z]
      refine vR11_call_182 ⟨fun _ => ?_, fun z => absurd rfl z⟩
      refine ⟨hr2.1.1, hr2.1.2.1, C_takeS hst (c := 41) hs2 I2.2.1.1 (by decide) (fun _ => by omega) (fun y s' hF => hbad s' f3 (k1.1.flt hF (by omega) (by decide) ?_)) (fun _ _ y => absurd y (by decide)) (fun e3 e4 _ s' z4 hF => hbad s' f3 (k1.1.flt hF (by omega) (by decide) ?_)) (fun e3 e4 _ s3 hcf3 hs3 => ⟨rfl, k1.2.1.1, q, k1.2.1.2.2.2.1, hq17.1, _, hq17.2, k1.2.1.1, ?_, fun f4 e5 => hok s3 f4 ?_⟩)⟩
      · rw [← hwk]
        exact XB_call hst k2 (by omega) (by omega) (by omega) (by show 6 ≤ 6; omega) (fun y => absurd rfl y) (fun y => by have y : 6 = 8 := y; omega) hn9 (by omega) y (Or.inr z)
      · exact (XF_call hst k2 (by omega) (by omega) (by omega) rfl hn9 (by omega) e3 e4).bad (XB_bad hst z4 (by omega) (by rw [hXl] at hm2; omega) (fun x hx => hi.nums.2.2.2.2.2.2.1 x hx))
      · rw [k1.1.2.1.1.2.1]; have := hi.2.2.2.1; have := k1.2.1.2.2.1; omega
      · rw [if_neg (by decide), if_pos (by decide)] at hs3
        have hp4 := ht2.2.2.2.2 (by omega)
        have o3 := k1.2.1.1
        exact fin_call (z := 0) (j := 1) k1 hi (by omega) (by omega) he' (by omega) (by omega) hlo ⟨hnp.1, by have := k1.1.2.2.2.2.2.2.2.2.2.2.2; omega⟩ (fun a ha => by have := k1.1.2.2.2.2.1.2.2.2 a ha; omega) hnm (by rw [cN]; exact v1) (by rw [cN]; exact v2) (by rw [cN]; exact v3) (by rw [cN]; exact v4) (by rw [cN]; exact v5) (by rw [e5]; exact gE.set _ _ _) (by rw [e5]; exact ⟨rfl, rfl⟩) (fun i hi => by rw [e5]; exact set_vn o3.1 hi) (by rw [e5]; exact set_vl o3.1) hcf3 hs3 (by omega) (fun i hi => oup_ne _ _ (by omega)) (XF_call hst k2 (by omega) (by omega) (by omega) rfl hn9 (by omega) e3 e4) (Or.inl ⟨rfl, rfl, oup_at _ _ _⟩)
    · rw [decide_eq_true z]
      refine ⟨hr2.1.1, hr2.1.2.1, C_nextS hst hs2 I2.2.1.1 (fun s' z4 hF => hbad s' f3 (k1.1.flt hF (by omega) (by decide) ?_)) (fun s3 hcf3 hs3 => ⟨rfl, ?_⟩)⟩
      · exact (XF_comma hst k2 (by omega) (by omega) (by show 5 ≤ 6; omega) (Or.inl (by show 6 ≤ 7; omega)) (fun y => absurd rfl y) hn9 (fun y => by have y : 6 = 7 := y.1; omega) z.1 z.2).bad (XB_bad0 hst z4 (by show X.length + 1 ≤ 74; omega) (by omega))
      · have hp4 := ht2.2.2.2.2 (by omega)
        have k3' := k1.tok (u' := 1) hcf3 hs3 (XF_comma hst k2 (by omega) (by omega) (by show 5 ≤ 6; omega) (Or.inl (by show 6 ≤ 7; omega)) (fun y => absurd rfl y) hn9 (fun y => by have y : 6 = 7 := y.1; omega) z.1 z.2) (by omega) (by omega)
        exact ih _ _ _ _ _ _ _ _ _ _ _ _ _ _ _ _ (by have := hs3.2.1.2.1; omega) k3' (by omega) he' (by rw [cN]; exact v1) (by rw [cN]; exact v2) (by rw [cN]; exact v3) (by rw [cN]; exact v4) (by rw [cN]; exact v5)
end CA
