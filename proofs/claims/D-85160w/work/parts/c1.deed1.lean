/-! DEEDS: specs; plain ones -/
def ms0 : MS := (fun _ => 0, fun _ => 0, fun _ _ => 0, fun _ _ => 0)
section DS
variable (l : Launch) (E : EN) (w : CO) (wm : MO) (dt : Nat) (ch : Nat → Nat) (n hf x0 nw na K0 : Nat)
/-- the model reads a statement's text so (whatever blocks are open) -/
def sTF (o : Nat) (p : Nat) (vs : List Nat) (O : Nat → Od) (c : Nat) (B : List Tok) (p' : Nat) (vs' : List Nat) (O' : Nat → Od) (c' : Nat) (B' : List Tok) : Prop := ∀ s00 bk Bl Fn, List.length Bl + 1 ≤ o → TF l E wm dt ch n hf s00 (((p, o), vs, O, c, B), bk :: Bl, Fn) (((p', o), vs', O', c', B'), bk :: Bl, Fn)
def sTB (o : Nat) (p : Nat) (vs : List Nat) (O : Nat → Od) (c : Nat) (B : List Tok) (k pl : Nat) : Prop := ∀ s00 bk Bl Fn, List.length Bl + 1 ≤ o → TBt l E wm dt ch n hf s00 (((p, o), vs, O, c, B), bk :: Bl, Fn) k pl
/-- a deed with the order ahead of it -/
def TD (g u h v a b : Nat) (f : RH) (P : Pg) (F : Nat → Nat) (M nv : Nat) : Prop := (v < f.2.2.2 ∧ ∃ (x y : Nat) (z pl : Int32), vl f v 161 = .int pl ∧ P.1 a = (1, x, y, z, pl)) ∧ RepX f P F M nv g true (.ref v) (a + 1) b u h
def dd (f : RH) (x : Nat) : Prop := x < f.1 ∧ ∃ k, tg f x = some (.inl k) ∧ k ∈ CKs 6
/-- what a deed leaves -/
def tOk (p o ca cap c : Nat) (vs : List Nat) (O : Nat → Od) (A : List (Nat × Nat × Nat)) (B : List Tok) (s : CS) (f : RH) (v : Nat) (s' : CS) (f' : RH) : Prop :=
  ∃ (p' : Nat) (vs' : List Nat) (O' : Nat → Od) (c' : Nat) (dC : List CE) (dA : List (Nat × Nat × Nat)) (ca' cap' : Nat),
    (cfP s s' ∧ cSc ch n p' o s') ∧ (gE [x0, nw, na, ca] f f' ∧ rdR w f' x0 nw na ca' cap' vs' (A ++ dA) ∧ (ca' = ca ∨ f.1 ≤ ca')) ∧ sTF l E wm dt ch n hf o p vs O c B p' vs' O' c' (B ++ dC.map toB) ∧
    ((∀ i, i < 4000 * (1 - hf) + c → O' i = O i) ∧ dd f' v ∧ Rg f' O' dC f.1 f'.1 vs'.length (4000 * (1 - hf) + c) (4000 * (1 - hf) + c') (TD (7 * (11 - o) + 1) (11 - o) (hN p p') v (4000 * (1 - hf) + c) (4000 * (1 - hf) + c'))) ∧
    cLk f' f.1 p p' dC dA ∧ (p + 2 ≤ p' ∧ c ≤ c' ∧ c' + 3 * p ≤ c + 3 * p' ∧ 2 * dC.length + p ≤ p' ∧ cap ≤ cap' ∧ f'.2.1 + 2 * cap + 50 ≤ f.2.1 + 2 * cap' + 100 * (p' - p) ∧ vs.length ≤ vs'.length)
def tBad (p o c : Nat) (vs : List Nat) (O : Nat → Od) (B : List Tok) (s s' : CS) (f' : RH) : Prop := ∃ k pl, cFl s s' k pl ∧ f'.2.1 ≤ K0 ∧ (1 ≤ k ∧ k ≤ 6) ∧ sTB l E wm dt ch n hf o p vs O c B k pl
/-- a deed but for its place -/
def dOk (p o ca cap c : Nat) (vs : List Nat) (O : Nat → Od) (A : List (Nat × Nat × Nat)) (B : List Tok) (s : CS) (f : RH) (Q : KO → CS → RH → Prop) : Prop :=
  ∀ v k s3 f1, oc f1 v k → k ∈ [14, 24, 25, 26, 27, 28] → f1.2.2.2 ≤ v → (∀ f2, f2 = fset f1 v 161 (.int (nI (tk ch n p).2.1)) → tOk l E w wm dt ch n hf x0 nw na p o ca cap c vs O A B s f v s3 f2) → Q (.inl (some (.ref v))) s3 f1
end DS
section DS2
variable {l : Launch} {E : EN} {w : CO} {wm : MO} {dt d : Nat} {al : Int32} {ch : Nat → Nat} {n hf : Nat} {s0 : MS} {x0 nw na K0 p o ca cap c gm u z r u' r' p1 o1 ca1 cap1 c1 p2 o2 c2 N k : Nat} {vs vs1 : List Nat} {O O1 O2 : Nat → Od} {A dA : List (Nat × Nat × Nat)} {B : List Tok} {dC : List CE} {s s1 s2 : CS} {f f1 f2 : RH} {Q : KO → CS → RH → Prop}
theorem dM.fin {pl : Int32} (h : dM w ch n hf x0 nw na p o ca cap c vs O A s f u z r p1 o ca1 cap1 c1 vs1 O1 dC dA s1 f1) (hi : tIn w ch n x0 nw na E K0 p o ca cap c vs A B s f) (hN1 : oc f1 N k) (hk : k ∈ [14, 24, 25, 26, 27, 28]) (hN2 : f.1 ≤ N ∧ N < f1.1) (e2 : f2 = fset f1 N 161 (.int pl)) (hz : z + 50 ≤ 100 * u) (hr : r ≤ 3 * u) (hu : p + 2 ≤ p1) (hc : c < c1) (hF : sTF l E wm dt ch n hf o p vs O c B p1 vs1 O1 c1 (B ++ dC.map toB)) (hO : O1 (4000 * (1 - hf) + c) = (1, 0, 0, 0, pl))
    (hT : ∀ f' P F M nv', f2.1 ≤ f'.2.2.2 → Ag f.1 f2.1 f2 f' → (∀ i, 4000 * (1 - hf) + c ≤ i → i < 4000 * (1 - hf) + c1 → oAg (O1 i) (P.1 i)) → (∀ e ∈ dC, RS f' P F M e) → vs1.length ≤ nv' → vl f' N 161 = .int pl → oc f' N k → N < f'.2.2.2 → (∀ j, ¬ j = 161 → vl f' N j = vl f1 N j) → RepX f' P F M nv' (7 * (11 - o) + 1) true (.ref N) (4000 * (1 - hf) + (c + 1)) (4000 * (1 - hf) + c1) (11 - o) (hN p p1)) : tOk l E w wm dt ch n hf x0 nw na p o ca cap c vs O A B s f N s1 f2 := by
  have hg : gE [N] f1 f2 := by rw [e2]; exact gE.set _ _ _
  have o2 : oc f2 N k := by rw [e2]; exact set_oc hN1
  have v2 : vl f2 N 161 = .int pl := by rw [e2]; exact set_vl hN1.1
  have w2 : ∀ j, ¬ j = 161 → vl f2 N j = vl f1 N j := fun j hj => by rw [e2]; exact set_vn hN1.1 hj
  have z2 : f2.1 = f1.1 ∧ f2.2.1 = f1.2.1 := by rw [e2]; exact ⟨rfl, rfl⟩
  have hk6 : k ∈ CKs 6 := by
    simp only [List.mem_cons, List.not_mem_nil, or_false] at hk
    rcases hk with rfl | rfl | rfl | rfl | rfl | rfl <;> decide
  have hk19 : ¬ k = 19 := by
    simp only [List.mem_cons, List.not_mem_nil, or_false] at hk
    omega
  have h' := h.heap (z' := z) hi hg (fun a ha => Or.inr (by
    rw [List.mem_singleton.mp ha, hN1.1]
    exact ⟨hN2.1, fun y => (by cases y), fun y => hk19 (by injection y with y; injection y)⟩)) (by omega)
  obtain ⟨h1, h2, h3, h4, ⟨h5, h6, h7, h8⟩, h9, h10, h11⟩ := h'
  refine ⟨p1, vs1, O1, c1, dC, dA, ca1, cap1, h1, h2, hF, ⟨h3, ⟨by omega, k, o2.1, hk6⟩, ?_⟩, h4, ⟨by omega, h6, by omega, by omega, h7, by omega, h8⟩⟩
  intro f' P F M nv' t1 t2 t3 t4 t5
  have hlt : N < f2.1 := by omega
  have a1 : ∀ j, vl f' N j = vl f2 N j := fun j => t2.vl hN2.1 hlt o2 hk19 j
  have ep := (t3 (4000 * (1 - hf) + c) (Nat.le_refl _) (by omega)).eq (by rw [hO]; exact Nat.ne_of_beq_eq_false rfl) (by rw [hO]; exact Nat.ne_of_beq_eq_false rfl)
  rw [hO] at ep
  refine ⟨⟨by omega, 0, 0, 0, pl, (a1 161).trans v2, ep⟩, ?_⟩
  exact hT f' P F M nv' t1 t2 t3 t4 t5 ((a1 161).trans v2) (t2.oc hN2.1 hlt o2) (by omega) (fun j hj => (a1 j).trans (w2 j hj))
theorem tIn.num (h : tIn w ch n x0 nw na E K0 p o ca cap c vs A B s f) : p ≤ n ∧ o ≤ 10 ∧ c < 3800 ∧ B.length < 800 ∧ A.length ≤ 700 ∧ cap ≤ 8000 ∧ f.2.1 + 4000 ≤ BM ∧ f.2.1 + 4000 ≤ K0 ∧ vs.length ≤ 14 ∧ n ≤ 1260 := by
  have := h.1.nums
  have := h.1.2.2.2.2.1.1
  exact ⟨by omega, by omega, by omega, by omega, by omega, by omega, by omega, by omega, by omega, by omega⟩
/-- a fault told where the scanner stands -/
theorem tBad.mk {k pl : Nat} {f' : RH} (h : dM w ch n hf x0 nw na p o ca cap c vs O A s f u z r p1 o1 ca1 cap1 c1 vs1 O1 dC dA s1 f1) (hF : cFl s1 s2 k pl) (hb : f'.2.1 ≤ K0) (hk : 1 ≤ k ∧ k ≤ 6) (hB : sTB l E wm dt ch n hf o p vs O c B k pl) : tBad l E wm dt ch n hf K0 p o c vs O B s s2 f' := ⟨k, pl, ⟨h.1.1.trans hF.1, hF.2⟩, hb, hk, hB⟩
/-- behind a statement the next token is bad -/
theorem TB_bad4 (hst : l.stackTraces = false) {s00 : MS} {bk : BE} {Bl : List BE} {Fn : List FE} (h4 : (tk ch n p).1 = 4) (hc : c < 3900) (hbl : Bl.length ≤ 10) : TBt l E wm dt ch n hf s00 (((p, o), vs, O, c, B), bk :: Bl, Fn) 1 (tk ch n p).2.1 := by
  have hw : wk (tk ch n p) = 1 := if_pos h4
  have := TB_st (l := l) (E := E) (w := wm) (d := dt) (hf := hf) (s00 := s00) (o := o) (vs := vs) (O := O) (B := B) (bk := bk) (Fn := Fn) hst (show ¬ ((tk ch n p).1 = 3 ∧ (tk ch n p).2.2.1 = 125) from fun z => by omega) hc hbl (Or.inl (by omega))
  rw [hw] at this
  exact this
set_option maxHeartbeats 4000000 in
/-- say, return, raise -/
theorem D_plain (hst : l.stackTraces = false) (h : tIn w ch n x0 nw na E K0 p o ca cap c vs A B s f) (h1 : (tk ch n p).1 = 1) {hw : Nat} (hk : kw (tk ch n p) = 5 + hw) (hw1 : 1 ≤ hw) (hw3 : hw ≤ 3) (hd : 20 * (10 - o) + 59 ≤ d) (hok : dOk l E w wm dt ch n hf x0 nw na p o ca cap c vs O A B s f Q) (hbad : ∀ s' f', tBad l E wm dt ch n hf K0 p o c vs O B s s' f' → Q (.inr 1) s' f') : EvC l E w d MX11_plain [.ref x0, .int (nI hw)] s f Q := by
  have hm := h.num
  have hsc := h.1.1
  have ht := hsc.tk
  have hr := h.1.2.2.1
  have hfb := h.1.2.2.2.1
  have hp1 := ht.1.2.1
  have hp2 := ht.2.2.2.2 (by omega)
  have kB : B ++ ([] : List CE).map toB = B := by rw [List.map_nil, List.append_nil]
  obtain ⟨d, rfl⟩ : ∃ d', d = d' + 7 + 1 := ⟨d - 8, by omega⟩
  refine eR11_plain hst ⟨by unfold rmF; omega, fun N f1 eN e1 => ?_⟩
  subst eN
  have g1 : gE [] f f1 := by rw [e1]; exact gE.new _ _
  have o1 : oc f1 f.1 26 := by rw [e1]; exact oc_new _ _
  have z1 : f1.1 = f.1 + 1 ∧ f1.2.1 = f.2.1 + 4 := by rw [e1]; exact ⟨rfl, rfl⟩
  refine eX28_init hst (eX14_init hst ⟨rfl, o1, by rw [g1.2.1]; exact hfb, fun f2 e2 => ⟨rfl, ?_⟩⟩)
  have g2 : gE [] f f2 := g1.own (a := f.1) (by rw [e2]; exact gE.set _ _ _) (Nat.le_refl _)
  have o2 : oc f2 f.1 26 := by rw [e2]; exact set_oc o1
  have v2 : vl f2 f.1 190 = .int (nI hw) := by rw [e2]; exact set_vl o1.1
  have z2 : f2.1 = f.1 + 1 ∧ f2.2.1 = f.2.1 + 4 := by rw [e2]; exact z1
  have D1 := (dM.init (hf := hf) (O := O) h).heap (z' := 4) h g2 (fun a ha => absurd ha List.not_mem_nil) (by omega)
  have hr1 := D1.2.1.2.1
  have hk1 := D1.kc h
  have lx := hr.1.2.2.1
  have lw := hr.2.1.2.2.1
  have la := hr.2.2.1.2.2.1
  have lc := hr.2.2.2.2.2.1
  have hNc : f.1 ∉ [x0, nw, na, ca] := by
    intro z
    simp only [List.mem_cons, List.not_mem_nil, or_false] at z
    omega
  refine ⟨hr1.1.1, hr1.1.2.1, C_nextS hst hsc hk1.1.1 (fun s' y4 hF => hbad s' f2 (tBad.mk D1 hF (by omega) (by decide) (fun s00 bk Bl Fn hb => TB_plain (sd := ms0) hst h1 (by omega) (by omega) (by omega) (by omega) (Or.inl (XB_bad0 hst y4 (by decide) (by omega)))))) (fun s1 hcf1 hs1 => ⟨rfl, hr1.1.1, ?_⟩)⟩
  have D2 := (D1.tok (u' := 1) hcf1 hs1 (by omega)).ord (O2 := oup O (4000 * (1 - hf) + c) (1, 0, 0, 0, nI (tk ch n p).2.1)) (c2 := c + 1) (r' := 1) (fun i hi => oup_ne _ _ (by omega)) (by omega) (by omega)
  have I2 := D2.inn h (by omega) (by omega)
  refine R_expr (al := 0) (wm := wm) (dm := dt + 1) (hf := hf) (s0 := ms0) hst (tk ch n p).2.2.2 o ca cap (c + 1) vs (oup O (4000 * (1 - hf) + c) (1, 0, 0, 0, nI (tk ch n p).2.1)) (A ++ []) (B ++ ([] : List CE).map toB) [] s1 f2 (d + 7) _ I2 (Nat.zero_le _) (by decide) (fun x X' e => by cases e) (Or.inl rfl) (by omega) (fun v s2 f3 k => ⟨v, rfl, ?_⟩) (fun s' f' k => ?_)
  · obtain ⟨p2, vs2, O2, c2, dC2, dA2, ca2, cap2, q2, D3, ⟨k1, k2⟩, ⟨k3, k4, k5, k6⟩, ⟨k7, k8, k9⟩⟩ := D2.sub (D := [f.1]) (fun x hx => by rw [List.mem_singleton.mp hx]; omega) k
    have c3 : f3.2.2.1 f.1 = f2.2.2.1 f.1 := k3.ce (by omega) hNc
    have o3 := ocE c3 o2
    have hl3 := k3.1
    have cb3 : f3.2.2.2 ≤ f.1 := by rw [k3.2.1, g2.2.1]; exact hfb
    refine ⟨o3, cb3, fun f4 e4 => ?_⟩
    have g4 : gE [f.1] f3 f4 := by rw [e4]; exact gE.set _ _ _
    have o4 : oc f4 f.1 26 := by rw [e4]; exact set_oc o3
    have z4 : f4.1 = f3.1 ∧ f4.2.1 = f3.2.1 := by rw [e4]; exact ⟨rfl, rfl⟩
    have v4 : vl f4 f.1 191 = .ref v ∧ vl f4 f.1 190 = .int (nI hw) := by
      rw [e4]
      refine ⟨set_vl o3.1, (set_vn o3.1 (by decide)).trans ?_⟩
      rw [(cellE c3).2.2]; exact v2
    have D4 := D3.heap (z' := 4) h g4 (fun a ha => Or.inr (by rw [List.mem_singleton.mp ha, o3.1]; exact ⟨Nat.le_refl _, fun y => (by cases y), fun y => (by cases y)⟩)) (by omega)
    have hr4 := D4.2.1.2.1
    have hk4 := D4.kc h
    have hs4 := D4.1.2
    have ht4 := hs4.tk
    have hwk : wk (tk ch n p2) = 2 := if_neg hs4.2.1.2.2
    have hp3 := ht4.1.2.1
    have I4 := (D4.inn h (by omega) (by omega)).nums
    rw [kB] at k2
    refine ⟨hr4.1.1, hr4.1.2.1, C_takeS hst (c := 59) hs4 hk4.1.1 (by decide) (fun z => absurd z (by decide)) (fun y s' hF => hbad s' f4 (tBad.mk D4 hF (by omega) (by decide) (fun s00 bk Bl Fn hb => ?_))) (fun _ _ y => absurd y (by decide)) (fun e3 e5 _ s' y4 hF => hbad s' f4 (tBad.mk D4 hF (by omega) (by decide) (fun s00 bk Bl Fn hb => ?_))) (fun e3 e5 _ s5 hcf5 hs5 => ⟨rfl, ?_⟩)⟩
    · rw [← hwk]
      exact TB_plain (sd := ms0) hst h1 (by omega) (by omega) (by omega) (by omega) (Or.inr ⟨q2, p2, vs2, O2, c2, _, k2, k1, y, by omega, rfl, rfl⟩)
    · exact (TF_plain (sd := ms0) hst h1 (by omega) (by omega) (by omega) (by omega) k2 k1 ⟨e3, e5⟩ (by omega)).bad (TB_bad4 hst y4 (by omega) (by omega))
    · rw [if_neg (by decide), if_neg (by decide)] at hs5
      have hp4 := ht4.2.2.2.2 (by omega)
      have D5 := (D4.tok (u' := 1) hcf5 hs5 (by omega)).ord (O2 := oup O2 (4000 * (1 - hf) + c2) (kw (tk ch n p) + 13, 0, 0, 0, nI (tk ch n p).2.1)) (c2 := c2 + 1) (r' := 2) (fun i hi => oup_ne _ _ (by omega)) (by omega) (by omega)
      refine hok f.1 26 s5 f4 o4 (by decide) (by rw [g4.2.1]; exact cb3) (fun f5 e5' => D5.fin h o4 (by decide) ⟨Nat.le_refl _, by omega⟩ e5' (by omega) (by omega) (by omega) (by omega) (fun s00 bk Bl Fn hb => ?_) ?_ (fun f' P F M nv' t1 t2 t3 t4 t5 e161 oN ltN vlN => ?_))
      · exact TF_plain (sd := ms0) hst h1 (by omega) (by omega) (by omega) (by omega) k2 k1 ⟨e3, e5⟩ (by omega)
      · rw [oup_ne _ _ (by omega), k4 _ (by omega)]; exact oup_at _ _ _
      · have g5 : gE [f.1] f4 f5 := by rw [e5']; exact gE.set _ _ _
        have z5 : f5.1 = f4.1 := by rw [e5']; rfl
        have K5 := (k6.keep (D2 := [f.1]) g4 (fun x hx => Or.inr (Or.inl hx)) (fun x hx => Or.inl hx) (fun _ _ _ => rfl) (fun _ he => he) (Nat.le_refl _)).keep (D2 := [f.1]) g5 (fun x hx => Or.inr (Or.inl hx)) (fun x hx => Or.inl hx) (fun _ _ _ => rfl) (fun _ he => he) (Nat.le_refl _)
        have rn := K5.rep (Nat.le_refl f5.1) t1 t2 (fun i i1 i2 => by have := t3 i (by omega) (by omega); rw [oup_ne _ _ (by omega)] at this; exact this) t4 t5
        have ep := (t3 (4000 * (1 - hf) + c2) (by omega) (by omega)).eq (by rw [oup_at]; show ¬ kw (tk ch n p) + 13 = 9; omega) (by rw [oup_at]; show ¬ kw (tk ch n p) + 13 = 11; omega)
        rw [oup_at] at ep
        refine ⟨f.1, nI (tk ch n p).2.1, rfl, ltN, e161, hN_1 _ _, Or.inl ⟨oN, 4000 * (1 - hf) + c2, hw, 0, 0, 0, by rw [vlN 190 (by decide)]; exact v4.2, ?_, by omega, by omega, by omega, ?_⟩⟩
        · rw [vlN 191 (by decide), v4.1]
          exact rn.mono (by omega) (hN_le (by omega) (by omega))
        · rw [ep]; exact Prod.ext (by show kw (tk ch n p) + 13 = 18 + hw; omega) rfl
  · obtain ⟨k, pl, kF, kb, kk, kx⟩ := k
    rw [kB] at kx
    exact hbad s' f' (tBad.mk D2 kF kb kk (fun s00 bk Bl Fn hb => TB_plain (sd := ms0) hst h1 (by omega) (by omega) (by omega) (by omega) (Or.inl kx)))
set_option maxHeartbeats 4000000 in
/-- a call alone -/
theorem D_alone (hst : l.stackTraces = false) (h : tIn w ch n x0 nw na E K0 p o ca cap c vs A B s f) (h1 : (tk ch n p).1 = 1) (hw : (11 ≤ kw (tk ch n p) ∧ kw (tk ch n p) < 41) ∨ (kw (tk ch n p) = 41 ∧ bt ch n (sk ch n (tk ch n p).2.2.2) = 40)) (hd : 20 * (10 - o) + 59 ≤ d) (hok : dOk l E w wm dt ch n hf x0 nw na p o ca cap c vs O A B s f Q) (hbad : ∀ s' f', tBad l E wm dt ch n hf K0 p o c vs O B s s' f' → Q (.inr 1) s' f') : EvC l E w d MX11_alone [.ref x0] s f Q := by
  have hm := h.num
  have hsc := h.1.1
  have ht := hsc.tk
  have hr := h.1.2.2.1
  have hfb := h.1.2.2.2.1
  have hp1 := ht.1.2.1
  have hp2 := ht.2.2.2.2 (by omega)
  have kB : B ++ ([] : List CE).map toB = B := by rw [List.map_nil, List.append_nil]
  obtain ⟨d, rfl⟩ : ∃ d', d = d' + 7 + 1 := ⟨d - 8, by omega⟩
  refine eR11_alone hst ⟨by unfold rmF; omega, fun N f1 eN e1 => ?_⟩
  subst eN
  have g1 : gE [] f f1 := by rw [e1]; exact gE.new _ _
  have o1 : oc f1 f.1 26 := by rw [e1]; exact oc_new _ _
  have z1 : f1.1 = f.1 + 1 ∧ f1.2.1 = f.2.1 + 4 := by rw [e1]; exact ⟨rfl, rfl⟩
  refine eX28_init hst (eX14_init hst ⟨rfl, o1, by rw [g1.2.1]; exact hfb, fun f2 e2 => ⟨rfl, ?_⟩⟩)
  have g2 : gE [] f f2 := g1.own (a := f.1) (by rw [e2]; exact gE.set _ _ _) (Nat.le_refl _)
  have o2 : oc f2 f.1 26 := by rw [e2]; exact set_oc o1
  have v2 : vl f2 f.1 190 = .int (nI 4) := by rw [e2]; exact set_vl o1.1
  have z2 : f2.1 = f.1 + 1 ∧ f2.2.1 = f.2.1 + 4 := by rw [e2]; exact z1
  have D1 := (dM.init (hf := hf) (O := O) h).heap (z' := 4) h g2 (fun a ha => absurd ha List.not_mem_nil) (by omega)
  have hr1 := D1.2.1.2.1
  have hk1 := D1.kc h
  have lx := hr.1.2.2.1
  have lw := hr.2.1.2.2.1
  have la := hr.2.2.1.2.2.1
  have lc := hr.2.2.2.2.2.1
  have hNc : f.1 ∉ [x0, nw, na, ca] := by
    intro z
    simp only [List.mem_cons, List.not_mem_nil, or_false] at z
    omega
  refine ⟨hr1.1.1, ?_⟩
  have D2 := D1.ord (O2 := oup O (4000 * (1 - hf) + c) (1, 0, 0, 0, nI (tk ch n p).2.1)) (c2 := c + 1) (r' := 1) (fun i hi => oup_ne _ _ (by omega)) (by omega) (by omega)
  have I2 := D2.inn h (by omega) (by omega)
  refine R_call (al := 1) (wm := wm) (dm := dt + 1) (hf := hf) (s0 := ms0) (O := oup O (4000 * (1 - hf) + c) (1, 0, 0, 0, nI (tk ch n p).2.1)) hst (fun p' _ => R_expr hst p') I2 (Nat.zero_le _) h1 hw (by omega) (fun v s2 f3 k => ⟨v, rfl, ?_⟩) (fun s' f' k => ?_)
  · obtain ⟨p2, vs2, O2, c2, dC2, dA2, ca2, cap2, q2, D3, ⟨k1, k2⟩, ⟨k3, k4, k5, k6⟩, ⟨k7, k8, k9⟩⟩ := D2.sub (D := [f.1]) (fun x hx => by rw [List.mem_singleton.mp hx]; omega) k
    have c3 : f3.2.2.1 f.1 = f2.2.2.1 f.1 := k3.ce (by omega) hNc
    have o3 := ocE c3 o2
    have hl3 := k3.1
    have cb3 : f3.2.2.2 ≤ f.1 := by rw [k3.2.1, g2.2.1]; exact hfb
    refine ⟨o3, cb3, fun f4 e4 => ?_⟩
    have g4 : gE [f.1] f3 f4 := by rw [e4]; exact gE.set _ _ _
    have o4 : oc f4 f.1 26 := by rw [e4]; exact set_oc o3
    have z4 : f4.1 = f3.1 ∧ f4.2.1 = f3.2.1 := by rw [e4]; exact ⟨rfl, rfl⟩
    have v4 : vl f4 f.1 191 = .ref v ∧ vl f4 f.1 190 = .int (nI 4) := by
      rw [e4]
      refine ⟨set_vl o3.1, (set_vn o3.1 (by decide)).trans ?_⟩
      rw [(cellE c3).2.2]; exact v2
    have D4 := D3.heap (z' := 4) h g4 (fun a ha => Or.inr (by rw [List.mem_singleton.mp ha, o3.1]; exact ⟨Nat.le_refl _, fun y => (by cases y), fun y => (by cases y)⟩)) (by omega)
    have hr4 := D4.2.1.2.1
    have hk4 := D4.kc h
    have hs4 := D4.1.2
    have ht4 := hs4.tk
    have hwk : wk (tk ch n p2) = 2 := if_neg hs4.2.1.2.2
    have hp3 := ht4.1.2.1
    have I4 := (D4.inn h (by omega) (by omega)).nums
    rw [kB] at k2
    refine ⟨hr4.1.1, hr4.1.2.1, C_takeS hst (c := 59) hs4 hk4.1.1 (by decide) (fun z => absurd z (by decide)) (fun y s' hF => hbad s' f4 (tBad.mk D4 hF (by omega) (by decide) (fun s00 bk Bl Fn hb => ?_))) (fun _ _ y => absurd y (by decide)) (fun e3 e5 _ s' y4 hF => hbad s' f4 (tBad.mk D4 hF (by omega) (by decide) (fun s00 bk Bl Fn hb => ?_))) (fun e3 e5 _ s5 hcf5 hs5 => ⟨rfl, ?_⟩)⟩
    · rw [← hwk]
      have k1' : q2 = (1, 0) := k1
      rw [k1'] at k2
      exact TB_alone (sd := ms0) hst h1 hw (by omega) (by omega) (Or.inr ⟨p2, vs2, O2, c2, _, k2, y, by omega, rfl, rfl⟩)
    · have k1' : q2 = (1, 0) := k1
      rw [k1'] at k2
      exact (TF_alone (sd := ms0) hst h1 hw (by omega) (by omega) k2 ⟨e3, e5⟩ (by omega)).bad (TB_bad4 hst y4 (by omega) (by omega))
    · rw [if_neg (by decide), if_neg (by decide)] at hs5
      have hp4 := ht4.2.2.2.2 (by omega)
      have D5 := (D4.tok (u' := 1) hcf5 hs5 (by omega)).ord (O2 := oup O2 (4000 * (1 - hf) + c2) (22, 0, 0, 0, nI (tk ch n p).2.1)) (c2 := c2 + 1) (r' := 2) (fun i hi => oup_ne _ _ (by omega)) (by omega) (by omega)
      refine hok f.1 26 s5 f4 o4 (by decide) (by rw [g4.2.1]; exact cb3) (fun f5 e5' => D5.fin h o4 (by decide) ⟨Nat.le_refl _, by omega⟩ e5' (by omega) (by omega) (by omega) (by omega) (fun s00 bk Bl Fn hb => ?_) ?_ (fun f' P F M nv' t1 t2 t3 t4 t5 e161 oN ltN vlN => ?_))
      · have k1' : q2 = (1, 0) := k1
        rw [k1'] at k2
        exact TF_alone (sd := ms0) hst h1 hw (by omega) (by omega) k2 ⟨e3, e5⟩ (by omega)
      · rw [oup_ne _ _ (by omega), k4 _ (by omega)]; exact oup_at _ _ _
      · have g5 : gE [f.1] f4 f5 := by rw [e5']; exact gE.set _ _ _
        have z5 : f5.1 = f4.1 := by rw [e5']; rfl
        have K5 := (k6.keep (D2 := [f.1]) g4 (fun x hx => Or.inr (Or.inl hx)) (fun x hx => Or.inl hx) (fun _ _ _ => rfl) (fun _ he => he) (Nat.le_refl _)).keep (D2 := [f.1]) g5 (fun x hx => Or.inr (Or.inl hx)) (fun x hx => Or.inl hx) (fun _ _ _ => rfl) (fun _ he => he) (Nat.le_refl _)
        have rn := K5.rep (Nat.le_refl f5.1) t1 t2 (fun i i1 i2 => by have := t3 i (by omega) (by omega); rw [oup_ne _ _ (by omega)] at this; exact this) t4 t5
        have ep := (t3 (4000 * (1 - hf) + c2) (by omega) (by omega)).eq (by rw [oup_at]; show ¬ 22 = 9; omega) (by rw [oup_at]; show ¬ 22 = 11; omega)
        rw [oup_at] at ep
        refine ⟨f.1, nI (tk ch n p).2.1, rfl, ltN, e161, hN_1 _ _, Or.inl ⟨oN, 4000 * (1 - hf) + c2, 4, 0, 0, 0, by rw [vlN 190 (by decide)]; exact v4.2, ?_, by omega, by omega, by omega, ?_⟩⟩
        · rw [vlN 191 (by decide), v4.1]
          exact rn.mono (by omega) (hN_le (by omega) (by omega))
        · rw [ep]
  · obtain ⟨k, pl, kF, kb, kk, kx⟩ := k
    rw [kB] at kx
    exact hbad s' f' (tBad.mk D2 kF kb kk (fun s00 bk Bl Fn hb => TB_alone (sd := ms0) hst h1 hw (by omega) (by omega) (Or.inl kx)))
end DS2
