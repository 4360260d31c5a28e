/-! THE COMPONENT'S RESOLVE, AND THE WHOLE TEXT -/
/-- only Call.function changes -/
def r9 (f f' : RH) : Prop := (f'.1 = f.1 ∧ f'.2.1 = f.2.1 ∧ f'.2.2.2 = f.2.2.2) ∧ ∀ x, tg f' x = tg f x ∧ ln f' x = ln f x ∧ ∀ j, ¬ (tg f x = some (.inl 19) ∧ j = 178) → vl f' x j = vl f x j
theorem r9.rf (f : RH) : r9 f f := ⟨⟨rfl, rfl, rfl⟩, fun _ => ⟨rfl, rfl, fun _ _ => rfl⟩⟩
theorem r9.trans {f f' f'' : RH} (h : r9 f f') (k : r9 f' f'') : r9 f f'' := ⟨⟨k.1.1.trans h.1.1, k.1.2.1.trans h.1.2.1, k.1.2.2.trans h.1.2.2⟩, fun x => ⟨(k.2 x).1.trans (h.2 x).1, (k.2 x).2.1.trans (h.2 x).2.1, fun j hj => ((k.2 x).2.2 j (by rw [(h.2 x).1]; exact hj)).trans ((h.2 x).2.2 j hj)⟩⟩
theorem r9.oo {f f' : RH} (h : r9 f f') {a k : Nat} (q : oc f a k) : oc f' a k := ⟨(h.2 a).1.trans q.1, (h.2 a).2.1.trans q.2⟩
theorem r9.vv {f f' : RH} (h : r9 f f') {a : Nat} (q : ¬ tg f a = some (.inl 19)) (j : Nat) : vl f' a j = vl f a j := (h.2 a).2.2 j (fun z => q z.1)
theorem r9.vj {f f' : RH} (h : r9 f f') {a j : Nat} (q : ¬ j = 178) : vl f' a j = vl f a j := (h.2 a).2.2 j (fun z => q z.2)
/-- only this call's function -/
def r1 (b : Nat) (f f' : RH) : Prop := r9 f f' ∧ ∀ x j, ¬ (x = b ∧ j = 178) → vl f' x j = vl f x j
theorem r1.rf (b : Nat) (f : RH) : r1 b f f := ⟨r9.rf f, fun _ _ _ => rfl⟩
theorem r1.set {b : Nat} {f f' : RH} {v : Value} (h : r1 b f f') (hb : tg f' b = some (.inl 19)) : r1 b f (fset f' b 178 v) := by
  have hk : r9 f' (fset f' b 178 v) := ⟨⟨rfl, rfl, rfl⟩, fun x => by
    by_cases e : x = b
    · subst e
      obtain ⟨q1, q2, q3⟩ := fset_tg (j := 178) (v := v) hb
      exact ⟨q1.trans hb.symm, q2, fun j hj => by rw [q3]; exact if_neg (fun z => hj ⟨hb, z⟩)⟩
    · obtain ⟨q1, q2, q3⟩ := fset_ne (f := f') (a := b) (j := 178) (v := v) e
      exact ⟨q1, q2, fun j _ => q3 j⟩⟩
  refine ⟨h.1.trans hk, fun x j hj => ?_⟩
  rw [← h.2 x j hj]
  by_cases e : x = b
  · subst e
    obtain ⟨-, -, q3⟩ := fset_tg (j := 178) (v := v) hb
    rw [q3]; exact if_neg (fun z => hj ⟨rfl, z⟩)
  · exact (fset_ne (f := f') (a := b) (j := 178) (v := v) e).2.2 j
/-- the functions that were read -/
def fnT (w : CO) (x0 fa : Nat) (Fn : List FE) (DL : Nat → Nat) (f : RH) : Prop :=
  (oc f x0 11 ∧ vl f x0 147 = .ref (w.1 2) ∧ vl f x0 149 = .int (nI Fn.length) ∧ vl f x0 148 = .ref fa ∧ tg f fa = some (.inr 7) ∧ ln f fa = 12) ∧ (Fn.length ≤ 12 ∧ (fnm Fn).Nodup) ∧ ∀ k, k < Fn.length → vl f fa k = .ref (DL k) ∧ oc f (DL k) 12 ∧ vl f (DL k) 153 = .long (lN (cv (Fn.getD k (0, 0, 0, 0, 0)).1)) ∧ (Fn.getD k (0, 0, 0, 0, 0)).1 < 27 ^ 8 ∧ vl f (DL k) 155 = .int (nI (Fn.getD k (0, 0, 0, 0, 0)).2.2.1) ∧ (Fn.getD k (0, 0, 0, 0, 0)).2.2.1 < 2 ^ 31
theorem fnT.k9 {w : CO} {x0 fa : Nat} {Fn : List FE} {DL : Nat → Nat} {f f' : RH} (h : fnT w x0 fa Fn DL f) (k : r9 f f') : fnT w x0 fa Fn DL f' := by
  obtain ⟨⟨a1, a2, a3, a4, a5, a6⟩, a7, a8⟩ := h
  refine ⟨⟨k.oo a1, (k.vj (by decide)).trans a2, (k.vj (by decide)).trans a3, (k.vj (by decide)).trans a4, (k.2 fa).1.trans a5, (k.2 fa).2.1.trans a6⟩, a7, fun i hi => ?_⟩
  obtain ⟨b1, b2, b3, b4, b5, b6⟩ := a8 i hi
  exact ⟨(k.vv (by rw [a5]; intro z; cases z) i).trans b1, k.oo b2, (k.vj (by decide)).trans b3, b4, (k.vj (by decide)).trans b5, b6⟩
theorem nix_nd {vs : List Nat} {v : Nat} (hn : vs.Nodup) {k : Nat} (hk : k < vs.length) : vs.getD k 0 = v ↔ k = nix vs v := by
  obtain ⟨g1, g2, g3⟩ := nix_is vs v
  constructor
  · intro e
    have h1 : ¬ k < nix vs v := fun z => g2 k z e
    by_cases h2 : k = nix vs v
    · exact h2
    · have hl : nix vs v < vs.length := by omega
      have e2 := g3 hl
      rw [List.getD_eq_getElem?_getD, List.getElem?_eq_getElem hl] at e2
      rw [List.getD_eq_getElem?_getD, List.getElem?_eq_getElem hk] at e
      have e3 : vs[k] = vs[nix vs v] := by
        have e' : vs[k] = v := e
        have e2' : vs[nix vs v] = v := e2
        rw [e', e2']
      exact absurd e3.symm (List.pairwise_iff_getElem.mp hn _ _ hl hk (by omega))
  · intro e
    rw [e] at hk ⊢
    exact g3 hk
section RC
variable {l : Launch} {E : EN} {w : CO} {d : Nat} {x0 fa : Nat} {s : CS} {f : RH} {Q : KO → CS → RH → Prop} {Fn : List FE} {DL : Nat → Nat}
theorem R_res1 (hst : l.stackTraces = false) {b nm m pl : Nat} (hT : fnT w x0 fa Fn DL f) (hb : oc f b 19) (hcb : f.2.2.2 ≤ b) (h175 : vl f b 175 = .long (lN (cv nm))) (hnm : nm < 27 ^ 8) (h176 : vl f b 176 = .int (nI pl)) (h177 : vl f b 177 = .int (nI m)) (hm : m < 2 ^ 31) (h178 : vl f b 178 = .null)
    (hok : nix (fnm Fn) nm < Fn.length → (Fn.getD (nix (fnm Fn) nm) (0, 0, 0, 0, 0)).2.2.1 = m → ∀ f', r1 b f f' → vl f' b 178 = .ref (DL (nix (fnm Fn) nm)) → Q (.inl none) s f')
    (hbad : ¬ (nix (fnm Fn) nm < Fn.length ∧ (Fn.getD (nix (fnm Fn) nm) (0, 0, 0, 0, 0)).2.2.1 = m) → ∀ s' f', r1 b f f' → cFl s s' 6 pl → Q (.inr 1) s' f') : EvC l E w (d + 1) MX11_resolve [.ref x0, .ref b] s f Q := by
  have hlF : (fnm Fn).length = Fn.length := List.length_map ..
  have hl12 := hT.2.1.1
  have hw : ¬ (nix (fnm Fn) nm < Fn.length ∧ (Fn.getD (nix (fnm Fn) nm) (0, 0, 0, 0, 0)).2.2.1 = m) → ∀ f', r1 b f f' → EvC l E w d MX2_wrong [.ref (w.1 2), .int 6, .int (nI pl)] s f' (fun o s5 f6 => KP o (fun r => r = some (.ref (w.1 1)) ∧ Q (.inr 1) s5 f6) (fun k => Q (.inr k) s5 f6)) := fun hn f' hr =>
    C_wrongF hst (hbad hn _ f' hr ⟨⟨fun j hj => by
      simp only [List.mem_cons, List.not_mem_nil, or_false] at hj
      exact (uI_ne _ _ (by omega)).trans (uI_ne _ _ (by omega)), rfl⟩, rfl, rfl⟩) (fun _ _ _ => rfl)
  have main : ∀ j i f', Fn.length - i ≤ j → i ≤ Fn.length → r1 b f f' → vl f' b 178 = (if nix (fnm Fn) nm < i then .ref (DL (nix (fnm Fn) nm)) else .null) → ExC l E w (d + 1) MX11_resolve 2 [some (.ref x0), some (.ref b), some (.int (nI i))] [] s f' Q := by
    intro j
    induction j with
    | zero =>
      intro i f' hj hi hr hv
      have e : i = Fn.length := by omega
      subst e
      have hT' := hT.k9 hr.1
      have ob := hr.1.oo hb
      refine vR11_resolve_2 ⟨hT'.1.1, _, hT'.1.2.2.1, pk_le Fn.length Fn.length (fun _ => ⟨ob, _, rfl, ?_⟩) (fun z => absurd z (Nat.lt_irrefl _)) rfl rfl (by omega) (by omega)⟩
      by_cases hN : nix (fnm Fn) nm < Fn.length
      · rw [if_pos hN] at hv
        rw [hv]
        refine ⟨rfl, fun z => (by cases z), fun a3 ea => ⟨ob, _, rfl, rfl, _, rfl, (hT'.2.2 _ hN).2.1, _, (hT'.2.2 _ hN).2.2.2.2.1, ob, _, (hr.1.vj (by decide)).trans h177, ?_⟩⟩
        refine pk_eq (Fn.getD (nix (fnm Fn) nm) (0, 0, 0, 0, 0)).2.2.1 m (fun e => hok hN e f' hr hv) (fun e => ⟨hT'.1.1, hT'.1.2.1, ob, _, (hr.1.vj (by decide)).trans h176, hw (fun z => e z.2) f' hr⟩) rfl rfl (hT'.2.2 _ hN).2.2.2.2.2 hm
      · rw [if_neg hN] at hv
        rw [hv]
        exact ⟨rfl, fun _ => ⟨hT'.1.1, hT'.1.2.1, ob, _, (hr.1.vj (by decide)).trans h176, hw (fun z => hN z.1) f' hr⟩, fun a3 ea => (by cases ea)⟩
    | succ j ih =>
      intro i f' hj hi hr hv
      by_cases e : i = Fn.length
      · exact ih i f' (by omega) hi hr hv
      have hlt : i < Fn.length := by omega
      have hT' := hT.k9 hr.1
      have ob := hr.1.oo hb
      obtain ⟨q1, q2, q3, q4, q5, q6⟩ := hT'.2.2 i hlt
      have hcmp : lg_cmp (lN (cv (Fn.getD i (0, 0, 0, 0, 0)).1)) (lN (cv nm)) = 0 ↔ i = nix (fnm Fn) nm := by
        rw [cv_cmp q4 hnm, ← fnm_getD]
        exact nix_nd hT.2.1.2 (by rw [hlF]; exact hlt)
      have hix : inB (nI i) (ln f' fa) := by rw [hT'.1.2.2.2.2.2]; exact inB_n (by omega)
      have q1' : vl f' fa (nI i).toNatClampNeg = .ref (DL i) := by rw [nI_clamp (by omega)]; exact q1
      refine vR11_resolve_2 ⟨hT'.1.1, _, hT'.1.2.2.1, pk_le Fn.length i (fun z => absurd z (by omega)) (fun _ => ⟨hT'.1.1, fa, hT'.1.2.2.2.1, 7, by decide, hT'.1.2.2.2.2.1, hix, DL i, q1', q2, _, q3, ob, _, (hr.1.vj (by decide)).trans h175, fun z => ?_, fun z => ⟨hT'.1.1, fa, hT'.1.2.2.2.1, 7, by decide, hT'.1.2.2.2.2.1, hix, DL i, q1', ob, by rw [hr.1.1.2.2]; exact hcb, fun f22 e22 => ?_⟩⟩) rfl rfl (by omega) (by omega)⟩
      · rw [← nI_succ]
        refine ih (i + 1) f' (by omega) hlt hr ?_
        have ne : ¬ i = nix (fnm Fn) nm := fun y => z (hcmp.mpr y)
        rw [hv]
        by_cases y : nix (fnm Fn) nm < i
        · rw [if_pos y, if_pos (by omega)]
        · rw [if_neg y, if_neg (by omega)]
      · have ei := hcmp.mp z
        rw [← nI_succ]
        subst e22
        refine ih (i + 1) _ (by omega) hlt (hr.set ob.1) ?_
        rw [(fset_tg ob.1).2.2 178, if_pos rfl, if_pos (by omega), ← ei]
  refine eR11_resolve hst (main Fn.length 0 f (by omega) (Nat.zero_le _) (r1.rf b f) ?_)
  rw [if_neg (Nat.not_lt_zero _)]; exact h178
/-- all calls -/
theorem R_resA (hst : l.stackTraces = false) {ca cap p L : Nat} {A : List (Nat × Nat × Nat)} {C : List CE} (hT : fnT w x0 fa Fn DL f) (hca : vl f x0 151 = .ref ca ∧ tg f ca = some (.inr 8) ∧ ln f ca = cap ∧ vl f x0 152 = .int (nI A.length) ∧ A.length ≤ cap ∧ cap ≤ 8000 ∧ ∀ k, k < A.length → vl f ca k = .ref (A.getD k (0, 0, 0)).1) (hK : cLk f L 0 p C A) (hL : f.2.2.2 ≤ L) (hp : p < 2 ^ 31)
    (hok : (∀ e ∈ C, gdB Fn (toB e) = true) → ∀ f', r9 f f' → (∀ e ∈ C, vl f' e.1 178 = .ref (DL (nix (fnm Fn) e.2.2.2.1))) → Q (.inl none) s f')
    (hbad : ∀ e0 ∈ C, ¬ gdB Fn (toB e0) = true → (∀ e ∈ C, ¬ gdB Fn (toB e) = true → e0.2.2.2.2 ≤ e.2.2.2.2) → ∀ s' f', r9 f f' → cFl s s' 6 e0.2.2.2.2 → Q (.inr 1) s' f') : ExC l E w (d + 2) MX11_read 54 [some (.ref x0), some (.int 0)] [] s f Q := by
  obtain ⟨c1, c2, c3, c4, c5, c6, c7⟩ := hca
  obtain ⟨k1, k2, k3, k4⟩ := hK
  have hmem : ∀ e ∈ C, toA e ∈ A := fun e he => k2.mem_iff.mpr (List.mem_map.mpr ⟨e, he, rfl⟩)
  have hple : ∀ e ∈ C, e.2.2.2.2 < p := fun e he => (k4 _ (hmem e he)).2
  have hadr : ∀ e ∈ C, ∀ e' ∈ C, e.1 = e'.1 → e.2.2.2.2 = e'.2.2.2.2 ∧ e.2.2.1 = e'.2.2.1 := fun e he e' he' h => by
    obtain ⟨-, -, -, q4, q5, -, -, q8⟩ := k1 e he
    obtain ⟨-, -, -, r4, r5, -, -, r8⟩ := k1 e' he'
    rw [h, r4] at q4
    rw [h, r5] at q5
    have a1 : nI e'.2.2.2.2 = nI e.2.2.2.2 := by injection q4
    have a2 : nI e'.2.2.1 = nI e.2.2.1 := by injection q5
    exact ⟨((nI_eq (by have := hple e' he'; omega) (by have := hple e he; omega)).mp a1).symm, ((nI_eq (by omega) (by omega)).mp a2).symm⟩
  have main : ∀ (A2 A1 : List (Nat × Nat × Nat)) (f' : RH), A = A1 ++ A2 → r9 f f' → (∀ e ∈ C, toA e ∈ A1 → gdB Fn (toB e) = true ∧ vl f' e.1 178 = .ref (DL (nix (fnm Fn) e.2.2.2.1))) → (∀ e ∈ C, toA e ∈ A2 → vl f' e.1 178 = .null) → ExC l E w (d + 2) MX11_read 54 [some (.ref x0), some (.int (nI A1.length))] [] s f' Q := by
    intro A2
    induction A2 with
    | nil =>
      intro A1 f' eA hr h1 h2
      rw [List.append_nil] at eA
      subst eA
      have hT' := hT.k9 hr
      refine vR11_read_54 ⟨hT'.1.1, _, (hr.vj (by decide)).trans c4, pk_le A.length A.length (fun _ => hok (fun e he => (h1 e he (hmem e he)).1) f' hr (fun e he => (h1 e he (hmem e he)).2)) (fun z => absurd z (Nat.lt_irrefl _)) rfl rfl (by omega) (by omega)⟩
    | cons a A2 ih =>
      intro A1 f' eA hr h1 h2
      have hlen : A.length = A1.length + (A2.length + 1) := by rw [eA, List.length_append]; rfl
      have ea : A.getD A1.length (0, 0, 0) = a := by rw [eA, List.getD_eq_getElem?_getD, List.getElem?_append_right (Nat.le_refl _), Nat.sub_self]; rfl
      have haA : a ∈ A := by rw [eA]; exact List.mem_append_right _ List.mem_cons_self
      obtain ⟨e0, he0, ee0⟩ := List.mem_map.mp (k2.mem_iff.mp haA)
      have hlt1 : ∀ a' ∈ A1, a'.2.2 < a.2.2 := by
        have h := k3
        rw [eA, List.map_append, List.pairwise_append] at h
        exact fun a' ha' => h.2.2 _ (List.mem_map.mpr ⟨a', ha', rfl⟩) _ (List.mem_map.mpr ⟨a, List.mem_cons_self, rfl⟩)
      have hlt2 : ∀ a' ∈ A2, a.2.2 < a'.2.2 := by
        have h := k3
        rw [eA, List.map_append, List.pairwise_append] at h
        have h' : (a.2.2 :: A2.map (fun a => a.2.2)).Pairwise (· < ·) := h.2.1
        rw [List.pairwise_cons] at h'
        exact fun a' ha' => h'.1 _ (List.mem_map.mpr ⟨a', ha', rfl⟩)
      have ep : e0.2.2.2.2 = a.2.2 := by rw [← ee0]; rfl
      have ep1 : e0.1 = a.1 := by rw [← ee0]; rfl
      have hT' := hT.k9 hr
      obtain ⟨q1, q2, q3, q4, q5, q6, q7, q8⟩ := k1 e0 he0
      have hca' : vl f' ca (nI A1.length).toNatClampNeg = .ref e0.1 := by
        rw [nI_clamp (by omega), hr.vv (by rw [c2]; intro z; cases z), c7 A1.length (by omega), ea, ep1]
      refine vR11_read_54 ⟨hT'.1.1, _, (hr.vj (by decide)).trans c4, pk_le A.length A1.length (fun z => absurd z (by omega)) (fun _ => ⟨hT'.1.1, ca, (hr.vj (by decide)).trans c1, 8, by decide, (hr.2 ca).1.trans c2, by rw [(hr.2 ca).2.1, c3]; exact inB_n (by omega), e0.1, hca', hT'.1.1, ?_⟩) rfl rfl (by omega) (by omega)⟩
      refine R_res1 (d := d) (nm := e0.2.2.2.1) (m := e0.2.2.1) (pl := e0.2.2.2.2) hst hT' (hr.oo q2) (by rw [hr.1.2.2]; omega) ((hr.vj (by decide)).trans q3) q7 ((hr.vj (by decide)).trans q4) ((hr.vj (by decide)).trans q5) (by omega) (h2 e0 he0 (by rw [ee0]; exact List.mem_cons_self)) (fun g1 g2 f'' hr1 h178 => ⟨rfl, ?_⟩) (fun hn s' f'' hr1 hF => ?_)
      · have hg0 : gdB Fn (toB e0) = true := decide_eq_true ⟨g1, g2⟩
        have := ih (A1 ++ [a]) f'' (by rw [eA, List.append_assoc]; rfl) (hr.trans hr1.1) (fun e he hm => ?_) (fun e he hm => ?_)
        · rw [List.length_append] at this
          rw [← nI_succ]; exact this
        · rcases List.mem_append.mp hm with hm | hm
          · have ne : ¬ e.1 = e0.1 := fun z => by
              have h5 := (hadr e he e0 he0 z).1
              have h6 : e.2.2.2.2 < a.2.2 := hlt1 (toA e) hm
              omega
            refine ⟨(h1 e he hm).1, ?_⟩
            rw [hr1.2 e.1 178 (fun z => ne z.1)]; exact (h1 e he hm).2
          · have eq : toA e = toA e0 := (List.mem_singleton.mp hm).trans ee0.symm
            have e1 : e.1 = e0.1 := congrArg (fun t : Nat × Nat × Nat => t.1) eq
            have e2 : e.2.2.2.1 = e0.2.2.2.1 := (congrArg (fun t : Nat × Nat × Nat => t.2.1) eq : (toA e).2.1 = (toA e0).2.1)
            have e3 := (hadr e he e0 he0 e1).2
            refine ⟨decide_eq_true ?_, ?_⟩
            · show nix (fnm Fn) e.2.2.2.1 < Fn.length ∧ (Fn.getD (nix (fnm Fn) e.2.2.2.1) (0, 0, 0, 0, 0)).2.2.1 = e.2.2.1
              rw [e2, e3]; exact ⟨g1, g2⟩
            · rw [e1, e2]; exact h178
        · have ne : ¬ e.1 = e0.1 := fun z => by
            have h5 := (hadr e he e0 he0 z).1
            have h6 : a.2.2 < e.2.2.2.2 := hlt2 (toA e) hm
            omega
          rw [hr1.2 e.1 178 (fun z => ne z.1)]; exact h2 e he (List.mem_cons_of_mem _ hm)
      · have hn0 : ¬ gdB Fn (toB e0) = true := fun z => hn (of_decide_eq_true z)
        refine hbad e0 he0 hn0 (fun e he hb => ?_) s' f'' (hr.trans hr1.1) hF
        have hm := hmem e he
        rw [eA] at hm
        rcases List.mem_append.mp hm with hm | hm
        · exact absurd (h1 e he hm).1 hb
        · rcases List.mem_cons.mp hm with hm | hm
          · have : e.2.2.2.2 = a.2.2 := by rw [← hm]; rfl
            omega
          · have : a.2.2 < e.2.2.2.2 := hlt2 (toA e) hm
            omega
  exact main A [] f rfl (r9.rf f) (fun e _ hm => absurd hm List.not_mem_nil) (fun e he _ => (k1 e he).2.2.2.2.2.1)
end RC
