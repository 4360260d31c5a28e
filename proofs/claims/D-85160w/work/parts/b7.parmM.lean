/-! THE MODEL'S FUNCTIONS: their heads -/
/-- a name that a parameter, or a function, must not have -/
def dupN (vs : List Nat) (v : Nat) : Prop := (1 ≤ v ∧ v ≤ 8) ∨ v ∈ vs
theorem mem_getD {vs : List Nat} {v : Nat} : v ∈ vs ↔ ∃ k, k < vs.length ∧ vs.getD k 0 = v := by
  constructor
  · intro h
    obtain ⟨k, hk, e⟩ := List.getElem_of_mem h
    exact ⟨k, hk, by rw [List.getD_eq_getElem?_getD, List.getElem?_eq_getElem hk]; exact e⟩
  · rintro ⟨k, hk, e⟩
    rw [List.getD_eq_getElem?_getD, List.getElem?_eq_getElem hk] at e
    rw [← e]; exact List.getElem_mem hk
theorem nix_mem {vs : List Nat} {v : Nat} (h : ¬ v ∈ vs) : nix vs v = vs.length := by
  induction vs with
  | nil => rfl
  | cons x r ih =>
    show (if x = v then 0 else nix r v + 1) = r.length + 1
    rw [if_neg (fun e => h (by rw [e]; exact List.mem_cons_self)), ih (fun z => h (List.mem_cons_of_mem _ z))]
section SF7
variable {l : Launch} {E : EN} {w : MO} {d : Nat} {ch : Nat → Nat} {n hf : Nat} {s00 s s0 s1 s' sd : MS} {k pl p p1 p' o o' c c1 c' cb a t kd v : Nat} {vs vs1 vs' : List Nat} {O O1 O' : Nat → Od} {B B1 B' : List Tok} {X : List XE} {bk : BE} {Bl : List BE} {Fn : List FE} {q' : Nat × Nat} {al : Int32} {Q : Option Value → MS → Prop} {R : MS → Prop} {x1 x2 x3 x4 : Int32}
theorem mXg.addv (h : mXg 1 ch n hf s0 ((p, o), vs, O, c, B, X) s) (hv : v < 2 ^ 50) (hl : vs.length < 14) (hn : ¬ v ∈ vs) : mXg 1 ch n hf s0 ((p, o), vs ++ [v], O, c, B, X) (sI (sB s 78 vs.length (lN v)) 79 (nI (vs.length + 1))) := by
  obtain ⟨h1, h2, h3, h4, h5, h6, h7⟩ := h
  have e := nix_mem hn
  replace h4 : mVs s vs := h4 (Nat.le_refl _)
  have h4' := mVs.up (v := v) h4 hv (by show nix vs v < 14; omega)
  have h4' : mVs (sI (sB s 78 vs.length (lN v)) 79 (nI (vs.length + 1))) (vs ++ [v]) := by
    have h4'' : mVs (if nix vs v = vs.length then sI (sB s 78 (nix vs v) (lN v)) 79 (nI (vs.length + 1)) else sB s 78 (nix vs v) (lN v)) (nup vs v) := h4'
    unfold nup at h4''
    rw [if_pos e, if_pos e, e] at h4''
    exact h4''
  refine ⟨h1.fr ((mfX.sB _ _ 78 _ _).trans (mfX.sI _ _ 79 _)), h2, h3, fun _ => h4', h5.cg rfl (fun _ _ _ _ _ => rfl), h6.cg rfl (fun _ _ _ _ => rfl) (fun i _ => sB_ne s _ (fun z => absurd z.1 (by decide))), fun q => (h7 q).cg rfl (fun _ _ _ _ => rfl) (fun i _ => sB_ne s _ (fun z => absurd z.1 (by decide)))⟩
/-- is it told already? -/
theorem par80 (hst : l.stackTraces = false) (h : mXg 1 ch n hf s0 ((p, o), vs, O, c, B, X) s) (h64 : s.2.1 64 = lN v) (hv : v < 2 ^ 50)
    (hd : dupN vs v → EvM l E w d MX10_breaks [.ref w.1, .int 4, .int (s.1 63)] s (fun r s5 => r = none ∧ Q none s5))
    (hn : ¬ dupN vs v → vs.length < 14 → EvM l E w d MX10_take [.ref w.1] (sI (sB s 78 vs.length (lN v)) 79 (nI (vs.length + 1))) (fun r s1 => r = none ∧ (EvM l E w d MX10_isSign [.ref w.1, .int 44] s1 (fun r s2 => ∃ v3 : Int32, r = some (.int v3) ∧ ((v3 = 0 → ExM l E w (d + 1) MX10_parameters 29 [some (.ref w.1), some (.int v3), none, none] [] s2 Q) ∧ (¬ v3 = 0 → (EvM l E w d MX10_take [.ref w.1] s2 (fun r s4 => r = none ∧ ExM l E w (d + 1) MX10_parameters 29 [some (.ref w.1), some (.int v3), none, none] [] s4 Q)))))))) (hl : vs.length < 14) :
    ∀ m i, vs.length - i ≤ m → i ≤ vs.length → ∀ b : Bool, (b = true ↔ ((1 ≤ v ∧ v ≤ 8) ∨ ∃ k, k < i ∧ vs.getD k 0 = v)) → ExM l E w (d + 1) MX10_parameters 80 [some (.ref w.1), none, some (.int (bI b)), some (.int (nI i))] [] s Q := by
  have h79 : s.1 79 = nI vs.length := h.vv.1
  have hvs : ∀ k, k < vs.length → s.2.2.2 78 k = lN (vs.getD k 0) := h.vv.2.2.2
  have hvb : ∀ u ∈ vs, u < 2 ^ 50 := h.vv.2.2.1
  have hfin : ∀ b : Bool, (b = true ↔ ((1 ≤ v ∧ v ≤ 8) ∨ ∃ k, k < vs.length ∧ vs.getD k 0 = v)) → ((bI b = 0 → (inB (s.1 79) 14 ∧ (EvM l E w d MX10_take [.ref w.1] (sI (sB s 78 (s.1 79).toNatClampNeg (s.2.1 64)) 79 ((s.1 79) + 1)) (fun r s1 => r = none ∧ (EvM l E w d MX10_isSign [.ref w.1, .int 44] s1 (fun r s2 => ∃ v3 : Int32, r = some (.int v3) ∧ ((v3 = 0 → ExM l E w (d + 1) MX10_parameters 29 [some (.ref w.1), some (.int v3), none, none] [] s2 Q) ∧ (¬ v3 = 0 → (EvM l E w d MX10_take [.ref w.1] s2 (fun r s4 => r = none ∧ ExM l E w (d + 1) MX10_parameters 29 [some (.ref w.1), some (.int v3), none, none] [] s4 Q)))))))))) ∧ (¬ bI b = 0 → (EvM l E w d MX10_breaks [.ref w.1, .int 4, .int (s.1 63)] s (fun r s5 => r = none ∧ Q none s5)))) := by
    intro b hb
    have hdd : dupN vs v ↔ b = true := by unfold dupN; rw [hb, mem_getD]
    cases b with
    | true => exact ⟨fun z => absurd z (by decide), fun _ => hd (hdd.mpr rfl)⟩
    | false =>
      have hnd : ¬ dupN vs v := fun z => absurd (hdd.mp z) (by decide)
      refine ⟨fun _ => ⟨by rw [h79]; exact inB_n hl, ?_⟩, fun z => absurd rfl z⟩
      rw [h79, nI_clamp (by omega), h64, ← nI_succ]
      exact hn hnd hl
  intro m
  induction m with
  | zero =>
    intro i hm hi b hb
    have e : i = vs.length := by omega
    subst e
    exact vX10_parameters_80 (pk_le vs.length vs.length (fun _ => hfin b hb) (fun z => absurd z (by omega)) h79 rfl (by omega) (by omega))
  | succ m ih =>
    intro i hm hi b hb
    refine vX10_parameters_80 (pk_le vs.length i (fun z => ?_) (fun z => ?_) h79 rfl (by omega) (by omega))
    · have e : i = vs.length := by omega
      subst e
      exact hfin b hb
    · rw [← nI_succ]
      have hm' : vs.length - (i + 1) ≤ m := by clear hb; omega
      have hi' : i + 1 ≤ vs.length := by clear hb; omega
      have nx : ∀ b' : Bool, (b' = true ↔ (b = true ∨ vs.getD i 0 = v)) → ExM l E w (d + 1) MX10_parameters 80 [some (.ref w.1), none, some (.int (bI b')), some (.int (nI (i + 1)))] [] s Q := by
        intro b' hb'
        refine ih (i + 1) hm' hi' b' ?_
        rw [hb', hb]
        constructor
        · rintro ((q | ⟨k, k1, k2⟩) | q)
          · exact Or.inl q
          · exact Or.inr ⟨k, by omega, k2⟩
          · exact Or.inr ⟨i, by omega, q⟩
        · rintro (q | ⟨k, k1, k2⟩)
          · exact Or.inl (Or.inl q)
          · by_cases ek : k = i
            · subst ek; exact Or.inr k2
            · exact Or.inl (Or.inr ⟨k, by omega, k2⟩)
      cases b with
      | true => exact ⟨fun _ => nx true ⟨fun _ => Or.inl rfl, fun _ => rfl⟩, fun z => absurd z (by decide)⟩
      | false =>
        have hcmp : lg_cmp (s.2.2.2 78 i) (s.2.1 64) = 0 ↔ vs.getD i 0 = v := by
          rw [hvs i (by omega), h64]
          exact lN_cmp (hvb _ (mem_getD.mpr ⟨i, by omega, rfl⟩)) hv
        refine ⟨fun z => absurd rfl z, fun _ => ⟨inB_n (by omega), ?_⟩⟩
        rw [nI_clamp (by omega)]
        exact ⟨fun z => nx false ⟨fun y => (by cases y), fun y => y.elim id (fun y => absurd (hcmp.mpr y) z)⟩, fun z => nx true ⟨fun _ => Or.inr (hcmp.mp z), fun _ => rfl⟩⟩
/-- the parameters: one, from the head of the loop -/
def PEx (l : Launch) (E : EN) (w : MO) (d : Nat) (more : Int32) (s : MS) (Q : Option Value → MS → Prop) : Prop := ExM l E w (d + 10) MX10_parameters 29 [some (.ref w.1), some (.int more), none, none] [] s Q
theorem P_step (hst : l.stackTraces = false) (h : mXg 1 ch n hf s0 ((p, o), vs, O, c, B, []) s) (hl : vs.length ≤ 4) {t : Tok} (et : tk ch n p = t)
    (hno : ¬ (t.1 = 1 ∧ kw t = 41) → ∀ s', mFt ch n hf s0 c (wk t) t.2.1 s' → ¬ s'.1 66 ≤ 0 → Q none s') (hfull : t.1 = 1 → kw t = 41 → vs.length = 4 → ∀ s', mFt ch n hf s0 c 3 t.2.1 s' → ¬ s'.1 66 ≤ 0 → Q none s') (hdup : t.1 = 1 → kw t = 41 → vs.length < 4 → dupN vs t.2.2.1 → ∀ s', mFt ch n hf s0 c 4 t.2.1 s' → ¬ s'.1 66 ≤ 0 → Q none s')
    (hend : t.1 = 1 → kw t = 41 → vs.length < 4 → ¬ dupN vs t.2.2.1 → ¬ ((tk ch n t.2.2.2).1 = 3 ∧ (tk ch n t.2.2.2).2.2.1 = 44) → ∀ s', mXg 1 ch n hf s0 ((t.2.2.2, o), vs ++ [t.2.2.1], O, c, B, []) s' → PEx l E w d 0 s' Q)
    (hmore : t.1 = 1 → kw t = 41 → vs.length < 4 → ¬ dupN vs t.2.2.1 → (tk ch n t.2.2.2).1 = 3 → (tk ch n t.2.2.2).2.2.1 = 44 → ∀ s', mXg 1 ch n hf s0 (((tk ch n t.2.2.2).2.2.2, o), vs ++ [t.2.2.1], O, c, B, []) s' → PEx l E w d 1 s' Q) : PEx l E w d 1 s Q := by
  subst et
  have hTk : mTk s (tk ch n p) := h.2.1.1
  have ht : tkW n p (tk ch n p) := h.1.tk h.2.1.2
  have h66 := h.2.2.1.1
  have h79 : s.1 79 = nI vs.length := h.vv.1
  have brk : ∀ kk, 1 ≤ kk → kk ≤ 6 → (∀ s', mFt ch n hf s0 c kk (tk ch n p).2.1 s' → ¬ s'.1 66 ≤ 0 → Q none s') → EvM l E w (d + 9) MX10_breaks [.ref w.1, .int (nI kk), .int (s.1 63)] s (fun r s5 => r = none ∧ Q none s5) := by
    intro kk k1 k6 hQ
    refine M_breaks hst h66 ⟨rfl, hQ _ ⟨h.1.fr ((mfX.sI _ _ 66 _).trans (mfX.sI _ _ 67 _)), ⟨c, h.2.2.2.2.1.1, Nat.le_refl _⟩, Or.inl ⟨k1, k6, rfl, hTk.2.1⟩⟩ ?_⟩
    show ¬ (nI kk : Int32) ≤ 0
    rcases (show kk = 1 ∨ kk = 2 ∨ kk = 3 ∨ kk = 4 ∨ kk = 5 ∨ kk = 6 by omega) with rfl | rfl | rfl | rfl | rfl | rfl <;> decide
  refine vX10_parameters_29 ⟨fun z => absurd z (by decide), fun _ => ⟨fun z => absurd h66 z, fun _ => M_isName hst h.1.2.1 hTk ht.1.1 ht.2.1 ⟨_, rfl, bn_b (fun z => ?_) (fun z => ?_)⟩⟩⟩
  · exact M_wrong hst hTk ht.1.1 h66 ⟨rfl, hno z _ (mFt.told h.1 ⟨c, h.2.2.2.2.1.1, Nat.le_refl _⟩ rfl rfl) (by show ¬ (nI (wk (tk ch n p)) : Int32) ≤ 0; unfold wk; split <;> decide)⟩
  · refine bn_eq vs.length 4 (fun z4 => ?_) (fun z4 => brk 3 (by omega) (by omega) (hfull z.1 z.2 z4)) h79 rfl
    have h64 : s.2.1 64 = lN (tk ch n p).2.2.1 := hTk.2.2.2.1 (Or.inl z.1)
    rw [h64]
    refine MP_isShelf hst ht.2.1 ⟨_, rfl, ?_⟩
    refine par80 hst h h64 ht.2.1 (fun y => brk 4 (by omega) (by omega) (hdup z.1 z.2 (by omega) y)) (fun y hl14 => ?_) (by omega) vs.length 0 (by omega) (by omega) (decide (1 ≤ (tk ch n p).2.2.1 ∧ (tk ch n p).2.2.1 ≤ 8)) ?_
    · have hA := h.addv ht.2.1 hl14 (fun q => y (Or.inr q))
      refine hA.takeX hst (fun s2 h2 => ⟨rfl, ?_⟩)
      have hTk2 : mTk s2 (tk ch n (tk ch n p).2.2.2) := h2.2.1.1
      have ht2 : tkW n (tk ch n p).2.2.2 (tk ch n (tk ch n p).2.2.2) := h2.1.tk h2.2.1.2
      refine M_isSign hst (c := 44) hTk2 ht2.1.1 ht2.2.1 (by decide) ⟨_, rfl, pk_b (fun q => ?_) (fun q => ?_)⟩
      · rw [decide_eq_false q]
        exact hend z.1 z.2 (by omega) y q s2 h2
      · rw [decide_eq_true q]
        exact h2.takeX hst (fun s3 h3 => ⟨rfl, hmore z.1 z.2 (by omega) y q.1 q.2 s3 h3⟩)
    · rw [decide_eq_true_iff]
      constructor
      · exact fun q => Or.inl q
      · rintro (q | ⟨k, k1, -⟩)
        · exact q
        · omega
theorem P_end (hst : l.stackTraces = false) (h : mXg 1 ch n hf s0 ((p, o), vs, O, c, B, []) s) (ho : 1 ≤ o) (hno : ¬ ((tk ch n p).1 = 3 ∧ (tk ch n p).2.2.1 = 41) → ∀ s', mFt ch n hf s0 c (wk (tk ch n p)) (tk ch n p).2.1 s' → ¬ s'.1 66 ≤ 0 → Q none s') (hok : (tk ch n p).1 = 3 → (tk ch n p).2.2.1 = 41 → ∀ s', mXg 1 ch n hf s0 (((tk ch n p).2.2.2, o - 1), vs, O, c, B, []) s' → Q none s') : PEx l E w d 0 s Q := by
  refine vX10_parameters_29 ⟨fun _ => ?_, fun z => absurd rfl z⟩
  by_cases c41 : (tk ch n p).1 = 3 ∧ (tk ch n p).2.2.1 = 41
  · refine MP_sign hst (k := 41) h (by decide) (fun _ => ho) (fun z => absurd c41 z) (fun _ _ s2 h2 _ => ⟨rfl, ?_⟩)
    rw [if_pos (by decide)] at h2
    exact hok c41.1 c41.2 s2 h2
  · exact mFt_no hst h (by decide) (fun _ => ho) c41 (fun s2 h2 h66 => ⟨rfl, hno c41 s2 h2 h66⟩)
end SF7
