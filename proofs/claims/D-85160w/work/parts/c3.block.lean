/-! BLOCKS -/
section BS
variable (l : Launch) (E : EN) (w : CO) (wm : MO) (dt : Nat) (ch : Nat → Nat) (n hf x0 nw na K0 : Nat)
/-- what a block leaves -/
def bkOk (p o ca cap c : Nat) (vs : List Nat) (O : Nat → Od) (A : List (Nat × Nat × Nat)) (B : List Tok) (s : CS) (f : RH) (v : Nat) (s' : CS) (f' : RH) : Prop :=
  ((tk ch n p).1 = 3 ∧ (tk ch n p).2.2.1 = 123 ∧ o < 10) ∧ ∃ (p2 : Nat) (vs' : List Nat) (O' : Nat → Od) (c' : Nat) (dC : List CE) (dA : List (Nat × Nat × Nat)) (ca' cap' : Nat),
    ((tk ch n p2).1 = 3 ∧ (tk ch n p2).2.2.1 = 125) ∧ (cfP s s' ∧ cSc ch n (tk ch n p2).2.2.2 o s') ∧ (gE [x0, nw, na, ca] f f' ∧ rdR w f' x0 nw na ca' cap' vs' (A ++ dA) ∧ (ca' = ca ∨ f.1 ≤ ca')) ∧ sTF l E wm dt ch n hf (o + 1) (tk ch n p).2.2.2 vs O c B p2 vs' O' c' (B ++ dC.map toB) ∧
    ((∀ i, i < 4000 * (1 - hf) + c → O' i = O i) ∧ (oc f' v 13 ∧ v < f'.1 ∧ f.1 ≤ v) ∧ Rg f' O' dC f.1 f'.1 vs'.length (4000 * (1 - hf) + c) (4000 * (1 - hf) + c') (fun f P F M nv => RepX f P F M nv (7 * (10 - o) + 2) false (.ref v) (4000 * (1 - hf) + c) (4000 * (1 - hf) + c') (10 - o) (hN p p2))) ∧
    cLk f' f.1 p (tk ch n p2).2.2.2 dC dA ∧ (p + 1 ≤ p2 ∧ p2 < (tk ch n p2).2.2.2 ∧ c ≤ c' ∧ c' + 3 * p ≤ c + 3 * p2 ∧ 2 * dC.length + p ≤ p2 ∧ cap ≤ cap' ∧ f'.2.1 + 2 * cap ≤ f.2.1 + 2 * cap' + 100 * (p2 - p) ∧ vs.length ≤ vs'.length)
/-- how a block breaks -/
def bkBad (p o c : Nat) (vs : List Nat) (O : Nat → Od) (B : List Tok) (k pl : Nat) : Prop :=
  (¬ ((tk ch n p).1 = 3 ∧ (tk ch n p).2.2.1 = 123) ∧ k = 2 ∧ pl = (tk ch n p).2.1) ∨ (((tk ch n p).1 = 3 ∧ (tk ch n p).2.2.1 = 123) ∧ o = 10 ∧ k = 3 ∧ pl = (tk ch n p).2.1) ∨
  (((tk ch n p).1 = 3 ∧ (tk ch n p).2.2.1 = 123) ∧ o < 10 ∧ (sTB l E wm dt ch n hf (o + 1) (tk ch n p).2.2.2 vs O c B k pl ∨ ∃ p2 vs' O' c' B', sTF l E wm dt ch n hf (o + 1) (tk ch n p).2.2.2 vs O c B p2 vs' O' c' B' ∧ ((tk ch n p2).1 = 3 ∧ (tk ch n p2).2.2.1 = 125) ∧ (tk ch n (tk ch n p2).2.2.2).1 = 4 ∧ k = 1 ∧ pl = (tk ch n (tk ch n p2).2.2.2).2.1 ∧ c' < 3850 ∧ c ≤ c' ∧ (∀ i, i < 4000 * (1 - hf) + c → O' i = O i)))
def bkS (p : Nat) : Prop := ∀ (o ca cap c : Nat) (vs : List Nat) (O : Nat → Od) (A : List (Nat × Nat × Nat)) (B : List Tok) (s : CS) (f : RH) (d : Nat) (Q : KO → CS → RH → Prop), tIn w ch n x0 nw na E K0 p o ca cap c vs A B s f → 20 * (10 - o) + 50 ≤ d → (∀ v s' f', bkOk l E w wm dt ch n hf x0 nw na p o ca cap c vs O A B s f v s' f' → Q (.inl (some (.ref v))) s' f') → (∀ k pl s' f', cFl s s' k pl → f'.2.1 ≤ K0 → (1 ≤ k ∧ k ≤ 6) → bkBad l E wm dt ch n hf p o c vs O B k pl → Q (.inr 1) s' f') → EvC l E w d MX11_block [.ref x0] s f Q
def ddS (p : Nat) : Prop := ∀ (o ca cap c : Nat) (vs : List Nat) (O : Nat → Od) (A : List (Nat × Nat × Nat)) (B : List Tok) (s : CS) (f : RH) (d : Nat) (Q : KO → CS → RH → Prop), tIn w ch n x0 nw na E K0 p o ca cap c vs A B s f → 1 ≤ o → ¬ ((tk ch n p).1 = 3 ∧ (tk ch n p).2.2.1 = 125) → 20 * (10 - o) + 60 ≤ d → (∀ v s' f', tOk l E w wm dt ch n hf x0 nw na p o ca cap c vs O A B s f v s' f' → Q (.inl (some (.ref v))) s' f') → (∀ s' f', tBad l E wm dt ch n hf K0 p o c vs O B s s' f' → Q (.inr 1) s' f') → EvC l E w d MX11_deed [.ref x0] s f Q
end BS
section BS2
variable {l : Launch} {E : EN} {w : CO} {wm : MO} {dt d : Nat} {ch : Nat → Nat} {n hf : Nat} {x0 nw na K0 p o ca cap c u z r p1 o1 ca1 cap1 c1 p2 c2 N k m : Nat} {vs vs1 : List Nat} {O O1 O2 : Nat → Od} {A dA : List (Nat × Nat × Nat)} {B : List Tok} {dC : List CE} {s s1 s2 : CS} {f f1 f2 : RH} {Q : KO → CS → RH → Prop}
theorem sTF.trans {o p p1 p2 c c1 c2 : Nat} {vs vs1 vs2 : List Nat} {O O1 O2 : Nat → Od} {B B1 B2 : List Tok} (a : sTF l E wm dt ch n hf o p vs O c B p1 vs1 O1 c1 B1) (b : sTF l E wm dt ch n hf o p1 vs1 O1 c1 B1 p2 vs2 O2 c2 B2) : sTF l E wm dt ch n hf o p vs O c B p2 vs2 O2 c2 B2 := fun s00 bk Bl Fn h => (a s00 bk Bl Fn h).trans (b s00 bk Bl Fn h)
theorem sTF.bad {o p p1 c c1 k pl : Nat} {vs vs1 : List Nat} {O O1 : Nat → Od} {B B1 : List Tok} (a : sTF l E wm dt ch n hf o p vs O c B p1 vs1 O1 c1 B1) (b : sTB l E wm dt ch n hf o p1 vs1 O1 c1 B1 k pl) : sTB l E wm dt ch n hf o p vs O c B k pl := fun s00 bk Bl Fn h => (a s00 bk Bl Fn h).bad (b s00 bk Bl Fn h)
/-- the deeds of a block -/
def Dks (f : RH) (O : Nat → Od) (dC : List CE) (L : Nat) (D : List Nat) (nv g u hh m : Nat) (V c : Nat → Nat) (a b : Nat) : Prop := c 0 = a ∧ c m = b ∧ ∀ k, k < m → (a ≤ c k ∧ c k ≤ c (k + 1) ∧ c (k + 1) ≤ b) ∧ Kg f O dC L D nv (c k) (c (k + 1)) (TD g u hh (V k) (c k) (c (k + 1)))
theorem TD.mono {g u h h' v a b : Nat} (hh : h ≤ h') : ∀ f P F M nv, TD g u h v a b f P F M nv → TD g u h' v a b f P F M nv := fun f P F M nv q => ⟨q.1, q.2.mono (Nat.le_refl _) (Nat.le_refl _) hh⟩
theorem Kg.imp {f : RH} {O : Nat → Od} {C : List CE} {L nv a b : Nat} {D : List Nat} {T T' : RH → Pg → (Nat → Nat) → Nat → Nat → Prop} (k : Kg f O C L D nv a b T) (h : ∀ f P F M nv, T f P F M nv → T' f P F M nv) : Kg f O C L D nv a b T' := by
  obtain ⟨lo, hi, k1, k2, k3, k4⟩ := k
  exact ⟨lo, hi, k1, k2, k3, k4.wide (Nat.le_refl _) (Nat.le_refl _) (Nat.le_refl _) (Nat.le_refl _) h⟩
theorem Dks.keep {f f' : RH} {O O' : Nat → Od} {C C' : List CE} {L nv nv' g u hh hh' m a b : Nat} {D D' D2 : List Nat} {V c : Nat → Nat} (k : Dks f O C L D nv g u hh m V c a b) (hg : gE D' f f') (hD : ∀ x ∈ D', x < L ∨ x ∈ D ∨ f.1 ≤ x ∨ tg f x = some (.inr 8)) (hD2 : ∀ x ∈ D2, x ∈ D ∨ f.1 ≤ x) (hO : ∀ i, i < b → O' i = O i) (hC : ∀ e ∈ C, e ∈ C') (hv : nv ≤ nv') (hh2 : hh ≤ hh') : Dks f' O' C' L D2 nv' g u hh' m V c a b := by
  refine ⟨k.1, k.2.1, fun i hi => ?_⟩
  obtain ⟨k1, k3⟩ := k.2.2 i hi
  exact ⟨k1, (k3.keep hg hD hD2 (fun j j1 j2 => hO j (by omega)) hC hv).imp (TD.mono hh2)⟩
theorem Dks.add {f : RH} {O : Nat → Od} {C : List CE} {L nv g u hh m a b b' v : Nat} {D : List Nat} {V c : Nat → Nat} (k : Dks f O C L D nv g u hh m V c a b) (hb : b ≤ b') (hab : a ≤ b) (hk : Kg f O C L D nv b b' (TD g u hh v b b')) : Dks f O C L D nv g u hh (m + 1) (up V m v) (up c (m + 1) b') a b' := by
  refine ⟨(up_ne _ _ (by omega)).trans k.1, up_at _ _ _, fun i hi => ?_⟩
  by_cases ei : i = m
  · subst ei
    rw [up_at, up_at, up_ne _ _ (by omega), k.2.1]
    exact ⟨⟨hab, hb, Nat.le_refl _⟩, hk⟩
  · obtain ⟨k1, k3⟩ := k.2.2 i (by omega)
    rw [up_ne c _ (by omega : ¬ i = m + 1), up_ne V _ ei, up_ne c _ (by omega : ¬ i + 1 = m + 1)]
    exact ⟨⟨k1.1, k1.2.1, by omega⟩, k3⟩
/-- a deed within -/
theorem dM.deed {v : Nat} {D : List Nat} (h : dM w ch n hf x0 nw na p o ca cap c vs O A s f u z r p1 o1 ca1 cap1 c1 vs1 O1 dC dA s1 f1) (hD : ∀ x ∈ D, x < f1.1) (k : tOk l E w wm dt ch n hf x0 nw na p1 o1 ca1 cap1 c1 vs1 O1 (A ++ dA) (B ++ dC.map toB) s1 f1 v s2 f2) :
    ∃ (p2 : Nat) (vs2 : List Nat) (O2 : Nat → Od) (c2 : Nat) (dC2 : List CE) (dA2 : List (Nat × Nat × Nat)) (ca2 cap2 : Nat), dM w ch n hf x0 nw na p o ca cap c vs O A s f u z r p2 o1 ca2 cap2 c2 vs2 O2 (dC ++ dC2) (dA ++ dA2) s2 f2 ∧ sTF l E wm dt ch n hf o1 p1 vs1 O1 c1 (B ++ dC.map toB) p2 vs2 O2 c2 (B ++ (dC ++ dC2).map toB) ∧ (gE [x0, nw, na, ca1] f1 f2 ∧ (∀ i, i < 4000 * (1 - hf) + c1 → O2 i = O1 i) ∧ vs1.length ≤ vs2.length ∧ dd f2 v ∧ Kg f2 O2 (dC ++ dC2) f.1 D vs2.length (4000 * (1 - hf) + c1) (4000 * (1 - hf) + c2) (TD (7 * (11 - o1) + 1) (11 - o1) (hN p1 p2) v (4000 * (1 - hf) + c1) (4000 * (1 - hf) + c2))) ∧ (p1 + 2 ≤ p2 ∧ c1 ≤ c2 ∧ tg f1 ca1 = some (.inr 8) ∧ f2.2.1 + 2 * cap1 + 50 ≤ f1.2.1 + 2 * cap2 + 100 * (p2 - p1)) := by
  obtain ⟨p2, vs2, O2, c2, dC2, dA2, ca2, cap2, ⟨k1, k2⟩, ⟨k3, k4, k5⟩, k7, ⟨k8, k9, k10⟩, k11, ⟨k12, k13, k14, k15, k16, k17, k18⟩⟩ := k
  obtain ⟨⟨h1, h2⟩, ⟨h3, h4, h5⟩, h7, h8, ⟨h9, h10, h11, h12⟩, h13, h14, h15⟩ := h
  have l1 := h3.1
  have l2 := k3.1
  refine ⟨p2, vs2, O2, c2, dC2, dA2, ca2, cap2, ⟨⟨h1.trans k1, k2⟩, ⟨h3.trans k3 (fun a ha => ?_), by rw [← List.append_assoc]; exact k4, ?_⟩, fun i hi => (k8 i (by omega)).trans (h7 i hi), ?_, ⟨by omega, by omega, by omega, by omega⟩, ⟨by omega, by omega, by rw [List.length_append]; omega⟩⟩, by rw [List.map_append, ← List.append_assoc]; exact k7, ⟨k3, k8, k18, k9, ⟨f1.1, f2.1, l1, Nat.le_refl _, fun x hx => Or.inl (hD x hx), ?_⟩⟩, ⟨k12, k13, h4.2.2.2.2.1, k17⟩⟩
  · simp only [List.mem_cons, List.not_mem_nil, or_false] at ha ⊢
    rcases h5 with e | e
    · subst e; exact Or.inl ha
    · rcases ha with rfl | rfl | rfl | rfl
      · exact Or.inl (Or.inl rfl)
      · exact Or.inl (Or.inr (Or.inl rfl))
      · exact Or.inl (Or.inr (Or.inr (Or.inl rfl)))
      · exact Or.inr e
  · rcases k5 with e | e
    · subst e; exact h5
    · exact Or.inr (by omega)
  · have hne : ∀ a ∈ [x0, nw, na, ca1], ¬ tg f1 a = some (.inl 19) := by
      intro a ha z
      simp only [List.mem_cons, List.not_mem_nil, or_false] at ha
      rcases ha with rfl | rfl | rfl | rfl
      · rw [h4.1.1.1] at z; cases z
      · rw [h4.2.1.2.1.1] at z; cases z
      · rw [h4.2.2.1.1] at z; cases z
      · rw [h4.2.2.2.2.1] at z; cases z
    exact h8.app k11 k3 (fun a ha => Or.inr (Or.inr (hne a ha))) l1 (Nat.le_refl _) (by omega) (by omega)
  · exact fun f' P F M nv' q1 q2 q3 q4 q5 => k10 f' P F M nv' q1 q2 q3 (fun e he => q4 e (List.mem_append_right _ he)) q5
theorem dM.reb {z' : Nat} (h : dM w ch n hf x0 nw na p o ca cap c vs O A s f u z r p1 o1 ca1 cap1 c1 vs1 O1 dC dA s1 f1) (hz : f1.2.1 + 2 * cap + 100 * u ≤ f.2.1 + 2 * cap1 + 100 * (p1 - p) + z') : dM w ch n hf x0 nw na p o ca cap c vs O A s f u z' r p1 o1 ca1 cap1 c1 vs1 O1 dC dA s1 f1 := ⟨h.1, h.2.1, h.2.2.1, h.2.2.2.1, h.2.2.2.2.1, ⟨hz, h.2.2.2.2.2.2⟩⟩
set_option maxHeartbeats 8000000 in
/-- a block -/
theorem R_block (hst : l.stackTraces = false) (hIH : ∀ p', p < p' → ddS l E w wm dt ch n hf x0 nw na K0 p') : bkS l E w wm dt ch n hf x0 nw na K0 p := by
  intro o ca cap c vs O A B s f d Q h hd hok hbad
  have hm := h.num
  have hsc := h.1.1
  have ht := hsc.tk
  have hr := h.1.2.2.1
  have hfb := h.1.2.2.2.1
  have hp1 := ht.1.2.1
  have lx := hr.1.2.2.1
  have lw := hr.2.1.2.2.1
  have la := hr.2.2.1.2.2.1
  have kB : B ++ ([] : List CE).map toB = B := by rw [List.map_nil, List.append_nil]
  obtain ⟨d, rfl⟩ : ∃ d', d = d' + 7 + 1 := ⟨d - 8, by omega⟩
  refine eR11_block hst ⟨by unfold rmF; omega, fun N f1 eN e1 => ?_⟩
  subst eN
  have g1 : gE [] f f1 := by rw [e1]; exact gE.new _ _
  have o1 : oc f1 f.1 13 := by rw [e1]; exact oc_new _ _
  have z1 : f1.1 = f.1 + 1 ∧ f1.2.1 = f.2.1 + 3 := by rw [e1]; exact ⟨rfl, rfl⟩
  refine C_initB (lo := f.1) hst o1 (by omega) (by rw [g1.2.1]; exact hfb) (by rw [e1]; exact vl_new _ _ _) (Nat.le_refl _) (by omega) (fun f2 hB g2 z2 z2' => ⟨rfl, ?_⟩)
  have g02 : gE [] f f2 := g1.own g2 (Nat.le_refl _)
  have D1 := (dM.init (hf := hf) (O := O) h).heap (z' := 6) h g02 (fun a ha => absurd ha List.not_mem_nil) (by omega)
  have hr1 := D1.2.1.2.1
  have hk1 := D1.kc h
  refine ⟨hr1.1.1, hr1.1.2.1, C_takeS hst (c := 123) hsc hk1.1.1 (by decide) (fun z => absurd z (by decide)) (fun z s' hF => hbad 2 _ s' f2 hF (by omega) (by decide) (Or.inl ⟨z, rfl, rfl⟩)) (fun q1 q2 _ z s' hF => hbad 3 _ s' f2 hF (by omega) (by decide) (Or.inr (Or.inl ⟨⟨q1, q2⟩, z, rfl, rfl⟩))) (fun q1 q2 z s' y4 hF => hbad 1 _ s' f2 hF (by omega) (by decide) (Or.inr (Or.inr ⟨⟨q1, q2⟩, ?_, Or.inl (fun s00 bk Bl Fn hb => TB_bad4 hst y4 (by omega) (by omega))⟩))) (fun q1 q2 z s2 hcf2 hs2 => ⟨rfl, ?_⟩)⟩
  · have := fun y => z ⟨Or.inr (Or.inr rfl), y⟩
    omega
  have ho : o < 10 := by
    have := fun y => z ⟨Or.inr (Or.inr rfl), y⟩
    omega
  rw [if_pos (by decide)] at hs2
  have hp2 := ht.2.2.2.2 (by omega)
  have D2 := D1.tok (u' := 1) hcf2 hs2 (by omega)
  -- the end
  have close : ∀ p1 ca1 cap1 c1 vs1 O1 dC dA s1 f1 m a1 capN V cc, dM w ch n hf x0 nw na p o ca cap c vs O A s f 1 6 0 p1 (o + 1) ca1 cap1 c1 vs1 O1 dC dA s1 f1 → BlB f1 f.1 f.1 a1 capN m V → Dks f1 O1 dC f.1 [f.1, a1] vs1.length (7 * (10 - o) + 1) (10 - o) (hN p p1) m V cc (4000 * (1 - hf) + c) (4000 * (1 - hf) + c1) → p + 1 + 2 * m ≤ p1 → sTF l E wm dt ch n hf (o + 1) (tk ch n p).2.2.2 vs O c B p1 vs1 O1 c1 (B ++ dC.map toB) → ((tk ch n p1).1 = 3 ∧ (tk ch n p1).2.2.1 = 125) → EvC l E w (d + 7) MX2_take [.ref (w.1 2), .int 125] s1 f1 (fun o s10 f11 => KP o (fun r => r = none ∧ Q (.inl (some (.ref f.1))) s10 f11) (fun k => Q (.inr k) s10 f11)) := by
    intro p1 ca1 cap1 c1 vs1 O1 dC dA s1 f1 m a1 capN V cc D BB KK hpm hTF h125
    have hs1 := D.1.2
    have hk := D.kc h
    have I := (D.inn h (by omega) (by omega)).nums
    have ht1 := hs1.tk
    have hp3 := ht1.2.2.2.2 (by omega)
    have hp3' := ht1.1.2.1
    refine C_takeS hst (c := 125) hs1 hk.1.1 (by decide) (fun _ => by omega) (fun y => absurd h125 y) (fun _ _ y => absurd y (by decide)) (fun _ _ _ s' y4 hF => hbad 1 _ s' f1 ⟨D.1.1.trans hF.1, hF.2⟩ (by omega) (by decide) (Or.inr (Or.inr ⟨⟨q1, q2⟩, ho, Or.inr ⟨p1, vs1, O1, c1, _, hTF, h125, y4, rfl, rfl, by omega, D.2.2.2.2.1.2.1, D.2.2.1⟩⟩))) (fun _ _ _ s3 hcf3 hs3 => ⟨rfl, hok f.1 s3 f1 ?_⟩)
    rw [if_neg (by decide), if_pos (by decide)] at hs3
    obtain ⟨d1, d2, d3, d4, ⟨d5, d6, d7, d8⟩, d9, d10, d11⟩ := D
    have hl := d2.1.1
    refine ⟨⟨q1, q2, ho⟩, p1, vs1, O1, c1, dC, dA, ca1, cap1, h125, ⟨d1.1.trans hcf3, hs3⟩, d2, hTF, ⟨d3, ⟨BB.1.1, BB.1.2.1, Nat.le_refl _⟩, ?_⟩, d4.wide (gE.rf [] f1) (fun a ha => absurd ha List.not_mem_nil) (Nat.le_refl _) (Nat.le_refl _) (by omega), ⟨by omega, by omega, d6, by omega, by omega, d7, by omega, d8⟩⟩
    intro f' P F M nv' t1 t2 t3 t4 t5
    obtain ⟨⟨b1, b2, b3, b4, b5, b6, b7, b8⟩, ⟨i1, i2, i3, i4, i5, i6⟩, hkk⟩ := BB
    have aN := t2 f.1 (Nat.le_refl _) b2 (by rw [b1.1]; intro z; cases z)
    have vN : ∀ j, vl f' f.1 j = vl f1 f.1 j := fun j => aN.2.2 j (fun z => by rw [b1.1] at z; cases z.1)
    have aA := t2 a1 i4 i2 (by rw [i5]; intro z; cases z)
    have vA : ∀ j, vl f' a1 j = vl f1 a1 j := fun j => aA.2.2 j (fun z => by rw [i5] at z; cases z.1)
    refine ⟨f.1, m, a1, fun k => .ref (V k), cc, rfl, by omega, ⟨aN.1.trans b1.1, aN.2.1.trans b1.2⟩, by rw [vN]; exact b5, by omega, by rw [vN]; exact i1, Nat.lt_of_lt_of_le i2 t1, aA.1.trans i5, by rw [aA.2.1, i6]; exact b6, fun k hk => by rw [vA]; exact (hkk k hk).1, KK.1, KK.2.1, fun k hk => ?_⟩
    obtain ⟨k1, k2⟩ := KK.2.2 k hk
    obtain ⟨⟨y1, x, y, z, pl, y2, y3⟩, y4⟩ := k2.rep (Nat.le_refl f1.1) t1 t2 (fun i i1 i2 => t3 i (by omega) (by omega)) t4 t5
    exact ⟨V k, x, y, z, pl, rfl, y1, y2, y3, y4⟩
  -- the loop
  have main : ∀ b p1 ca1 cap1 c1 vs1 O1 dC dA s1 f1 m a1 capN V cc, n - p1 ≤ b → dM w ch n hf x0 nw na p o ca cap c vs O A s f 1 6 0 p1 (o + 1) ca1 cap1 c1 vs1 O1 dC dA s1 f1 → BlB f1 f.1 f.1 a1 capN m V → Dks f1 O1 dC f.1 [f.1, a1] vs1.length (7 * (10 - o) + 1) (10 - o) (hN p p1) m V cc (4000 * (1 - hf) + c) (4000 * (1 - hf) + c1) → p + 1 + 2 * m ≤ p1 → sTF l E wm dt ch n hf (o + 1) (tk ch n p).2.2.2 vs O c B p1 vs1 O1 c1 (B ++ dC.map toB) → f1.2.1 + 2 * cap + 100 + 50 * m ≤ f.2.1 + 2 * cap1 + 100 * (p1 - p) + 2 + 2 * capN → ExC l E w (d + 7 + 1) MX11_block 17 [some (.ref x0), some (.ref f.1)] [] s1 f1 Q := by
    intro b
    induction b with
    | zero =>
      intro p1 ca1 cap1 c1 vs1 O1 dC dA s1 f1 m a1 capN V cc hb D BB KK hpm hTF hbud
      have hs1 := D.1.2
      have hr1 := D.2.1.2.1
      have ht1 := hs1.tk
      have T1 := D.tin h (by omega) (by omega)
      refine vR11_block_17 ⟨hr1.1.1, hr1.1.2.1, C_is hst (c := 125) hs1.2.1.1 ht1.1.1 ht1.2.2.2.1 (by decide) ⟨_, rfl, bn_b (fun y => ⟨hr1.1.1, ?_⟩) (fun y => ⟨hr1.1.1, hr1.1.2.1, close p1 ca1 cap1 c1 vs1 O1 dC dA s1 f1 m a1 capN V cc D BB KK hpm hTF y⟩)⟩⟩
      refine hIH p1 (by omega) (o + 1) ca1 cap1 c1 vs1 O1 (A ++ dA) (B ++ dC.map toB) s1 f1 (d + 7) _ T1 (by omega) y (by omega) (fun v s2 f2 k => ?_) (fun s' f' k => ?_)
      · obtain ⟨p2, -, -, -, -, -, -, -, ⟨-, k2⟩, -, -, -, -, ⟨k12, -⟩⟩ := k
        have := k2.2.1.2.1
        omega
      · obtain ⟨k, pl, kF, kb, kk, kx⟩ := k
        exact hbad k pl s' f' ⟨D.1.1.trans kF.1, kF.2⟩ kb kk (Or.inr (Or.inr ⟨⟨q1, q2⟩, ho, Or.inl (hTF.bad kx)⟩))
    | succ b ih =>
      intro p1 ca1 cap1 c1 vs1 O1 dC dA s1 f1 m a1 capN V cc hb D BB KK hpm hTF hbud
      have hs1 := D.1.2
      have hr1 := D.2.1.2.1
      have ht1 := hs1.tk
      have T1 := D.tin h (by omega) (by omega)
      have hm1 := T1.num
      refine vR11_block_17 ⟨hr1.1.1, hr1.1.2.1, C_is hst (c := 125) hs1.2.1.1 ht1.1.1 ht1.2.2.2.1 (by decide) ⟨_, rfl, bn_b (fun y => ⟨hr1.1.1, ?_⟩) (fun y => ⟨hr1.1.1, hr1.1.2.1, close p1 ca1 cap1 c1 vs1 O1 dC dA s1 f1 m a1 capN V cc D BB KK hpm hTF y⟩)⟩⟩
      refine hIH p1 (by omega) (o + 1) ca1 cap1 c1 vs1 O1 (A ++ dA) (B ++ dC.map toB) s1 f1 (d + 7) _ T1 (by omega) y (by omega) (fun v s2 f2 k => ⟨v, rfl, ?_⟩) (fun s' f' k => ?_)
      · obtain ⟨p2, vs2, O2, c2, dC2, dA2, ca2, cap2, D3, k2, ⟨k3, k4, k5, k6, k7⟩, ⟨k8, k9, k10, k11⟩⟩ := D.deed (D := [f.1, a1]) (fun x hx => by
          simp only [List.mem_cons, List.not_mem_nil, or_false] at hx
          have := BB.1.2.1
          have := BB.2.1.2.1
          rcases hx with rfl | rfl <;> assumption) k
        have hl3 := k3.1
        have hpn := D3.1.2.2.1.2.1
        have hcap2 := D3.2.1.2.1.2.2.2.2.2.2.2.2.2.1
        have hK' := h.2.2
        have hK := h.1.2.2.2.2.2.2.2
        have hne : ∀ a ∈ [x0, nw, na, ca1], ¬ a = f.1 ∧ ¬ a = a1 := by
          intro a ha
          simp only [List.mem_cons, List.not_mem_nil, or_false] at ha
          have i4 := BB.2.1.2.2.2.1
          rcases ha with rfl | rfl | rfl | rfl
          · omega
          · omega
          · omega
          · refine ⟨fun e => ?_, fun e => ?_⟩
            · have := BB.1.1.1; rw [← e, k10] at this; cases this
            · have := BB.2.1.2.2.2.2.1; rw [← e, k10] at this; cases this
        have BB2 := BB.keep k3 (fun a ha _ => hne a ha)
        have hcN := BB.1.2.2.2.2.2.2.2
        refine ⟨BB2.1.1, C_addB hst BB2 k6 (by omega) (by omega) (by omega) (fun f3 b1 capN' B3 G3 j3 j4 j5 => ⟨rfl, ?_⟩)⟩
        have hl4 := G3.1
        have hcN' := B3.1.2.2.2.2.2.2.2
        have D4 := (D3.heap (z' := 6 + 2 * (capN' - capN)) h G3 (fun a ha => Or.inr (by
          simp only [List.mem_cons, List.not_mem_nil, or_false] at ha
          rcases ha with rfl | rfl
          · rw [BB2.1.1.1]; exact ⟨Nat.le_refl _, fun z => (by cases z), fun z => (by cases z)⟩
          · rw [BB2.2.1.2.2.2.2.1]; exact ⟨BB2.2.1.2.2.2.1, fun z => (by cases z), fun z => (by cases z)⟩)) (by omega)).reb (z' := 6) (by omega)
        have hh : hN p p1 ≤ hN p p2 := hN_le (Nat.le_refl _) (by omega)
        have z1 : Dks f2 O2 (dC ++ dC2) f.1 [f.1, a1] vs2.length (7 * (10 - o) + 1) (10 - o) (hN p p2) m V cc (4000 * (1 - hf) + c) (4000 * (1 - hf) + c1) := by
          refine KK.keep k3 (fun x hx => ?_) (fun x hx => Or.inl hx) k4 (fun e he => List.mem_append_left _ he) k5 hh
          simp only [List.mem_cons, List.not_mem_nil, or_false] at hx
          rcases hx with rfl | rfl | rfl | rfl
          · exact Or.inl lx
          · exact Or.inl lw
          · exact Or.inl la
          · exact Or.inr (Or.inr (Or.inr k10))
        have eo1 : 7 * (11 - (o + 1)) + 1 = 7 * (10 - o) + 1 := by omega
        have eo2 : 11 - (o + 1) = 10 - o := by omega
        rw [eo1, eo2] at k7
        have z2 := z1.add (Nat.add_le_add_left k9 _) (Nat.add_le_add_left D.2.2.2.2.1.2.1 _) (k7.imp (TD.mono (hN_le (by omega) (Nat.le_refl _))))
        have z3 : Dks f3 O2 (dC ++ dC2) f.1 [f.1, b1] vs2.length (7 * (10 - o) + 1) (10 - o) (hN p p2) (m + 1) (up V m v) (up cc (m + 1) (4000 * (1 - hf) + c2)) (4000 * (1 - hf) + c) (4000 * (1 - hf) + c2) := by
          refine z2.keep G3 (fun x hx => Or.inr (Or.inl hx)) (fun x hx => ?_) (fun _ _ => rfl) (fun _ he => he) (Nat.le_refl _) (Nat.le_refl _)
          simp only [List.mem_cons, List.not_mem_nil, or_false] at hx ⊢
          rcases hx with rfl | rfl
          · exact Or.inl (Or.inl rfl)
          · rcases j3 with e | e
            · exact Or.inl (Or.inr e)
            · exact Or.inr e
        exact ih p2 ca2 cap2 c2 vs2 O2 (dC ++ dC2) (dA ++ dA2) s2 f3 (m + 1) b1 capN' _ _ (by omega) D4 B3 z3 (by omega) (hTF.trans k2) (by omega)
      · obtain ⟨k, pl, kF, kb, kk, kx⟩ := k
        exact hbad k pl s' f' ⟨D.1.1.trans kF.1, kF.2⟩ kb kk (Or.inr (Or.inr ⟨⟨q1, q2⟩, ho, Or.inl (hTF.bad kx)⟩))
  exact main (n - (tk ch n p).2.2.2) _ _ _ _ _ _ _ _ _ _ 0 _ _ _ (fun _ => 4000 * (1 - hf) + c) (Nat.le_refl _) D2 hB ⟨rfl, rfl, fun k hk => absurd hk (Nat.not_lt_zero _)⟩ (by omega) (by rw [kB]; exact fun s00 bk Bl Fn _ => TF.rf) (by omega)
end BS2
