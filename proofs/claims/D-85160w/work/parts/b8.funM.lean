/-! THE MODEL'S FUNCTIONS: begin, end, the text's end -/
def fnm (F : List FE) : List Nat := F.map (fun x => x.1)
theorem fnm_getD (F : List FE) (k : Nat) : (fnm F).getD k 0 = (F.getD k (0, 0, 0, 0, 0)).1 := by
  unfold fnm
  rw [List.getD_eq_getElem?_getD, List.getD_eq_getElem?_getD, List.getElem?_map]
  cases F[k]? <;> rfl
section SG8
variable {l : Launch} {E : EN} {w : MO} {d : Nat} {ch : Nat → Nat} {n hf : Nat} {s00 s s0 s1 s' sd sR : MS} {k pl p p1 p' o o' c c1 c' cb a t kd v at' : Nat} {vs vs1 vs' : List Nat} {O O1 O' : Nat → Od} {B B1 B' : List Tok} {X : List XE} {bk : BE} {Bl : List BE} {Fn : List FE} {q' : Nat × Nat} {al : Int32} {Q : Option Value → MS → Prop} {R : MS → Prop} {x1 x2 x3 x4 : Int32}
theorem mXg.vs0 {g : Nat} (h : mXg g ch n hf s0 ((p, o), vs, O, c, B, X) s) : mXg 1 ch n hf s0 ((p, o), [], O, c, B, X) (sI s 79 0) := by
  obtain ⟨h1, h2, h3, h4, h5, h6, h7⟩ := h
  exact ⟨h1.fr (mfX.sI _ _ 79 _), h2, h3, fun _ => ⟨rfl, Nat.zero_le _, fun v hv => absurd hv List.not_mem_nil, fun k hk => absurd hk (Nat.not_lt_zero _)⟩, h5.cg rfl (fun _ _ _ _ _ => rfl), h6.cg rfl (fun _ _ _ _ => rfl) (fun _ _ => rfl), fun q => absurd q (by decide)⟩
theorem mfT.sF (s : MS) {j i : Nat} {x : Int32} (hj : j ∈ [74, 75, 76, 77]) (hi : 12 * (1 - hf) ≤ i ∧ i < 12 * (1 - hf) + 12) : mfT hf s (sA s j i x) := by
  refine ⟨fun _ _ _ _ => rfl, fun _ _ => rfl, fun q h1 h2 => funext fun i' => sA_ne s x (fun e => ?_), fun _ _ => rfl, fun q i' _ h2 => sA_ne s x (fun e => ?_), fun i' hi' => ⟨rfl, fun q hq => sA_ne s x (fun e => ?_)⟩⟩
  · have := e.1; subst this
    simp only [List.mem_cons, List.not_mem_nil, or_false] at hj h2
    omega
  · have := e.1; subst this
    simp only [List.mem_cons, List.not_mem_nil, or_false] at hj h2
    omega
  · have := e.2; omega
theorem mfT.sN (s : MS) {i : Nat} {x : Int64} (hi : 12 * (1 - hf) ≤ i ∧ i < 12 * (1 - hf) + 12) : mfT hf s (sB s 73 i x) := by
  refine ⟨fun _ _ _ _ => rfl, fun _ _ => rfl, fun _ _ _ => rfl, fun q h1 => funext fun i' => sB_ne s x (fun e => ?_), fun _ _ _ _ => rfl, fun i' hi' => ⟨sB_ne s x (fun e => ?_), fun _ _ => rfl⟩⟩
  · exact h1 (by rw [e.1]; decide)
  · have := e.2; omega
theorem mfT.sI72 (s : MS) (v : Int32) : mfT hf s (sI s 72 v) := ⟨fun j _ h _ => sI_ne s v h, fun _ _ => rfl, fun _ _ _ => rfl, fun _ _ => rfl, fun _ _ _ _ => rfl, fun _ _ => ⟨rfl, fun _ _ => rfl⟩⟩
/-- a function's name and place are kept -/
def regS (s : MS) (f : Nat) (v at' m : Nat) : MS := sI (sI (sA (sB s 73 f (lN v)) 74 f (nI at')) 72 (nI m)) 79 0
theorem reg_x {g : Nat} (h : mXg g ch n hf s0 ((p, o), vs, O, c, B, []) s) (f m : Nat) : mXg 1 ch n hf (regS s f v at' m) ((p, o), [], O, c, B, []) (regS s f v at' m) := by
  have h1 : mXg g ch n hf (sI (sA (sB s 73 f (lN v)) 74 f (nI at')) 72 (nI m)) ((p, o), vs, O, c, B, []) (sI (sA (sB s 73 f (lN v)) 74 f (nI at')) 72 (nI m)) := h.cgT (fun j h72 _ => sI_ne _ _ h72) rfl (fun j hj => funext fun i => sA_ne _ _ (fun e => hj (by rw [e.1]; decide))) (fun j hj => funext fun i => sB_ne s _ (fun e => hj e.1))
  exact (h1.vs0).rebase
/-- is the name told already? -/
theorem fn72 (hst : l.stackTraces = false) (hF : mFn hf s Fn) (hh : hf ≤ 1) (h64 : s.2.1 64 = lN v) (hv : v < 2 ^ 50) (hFb : ∀ u ∈ fnm Fn, u < 2 ^ 50) (hl : Fn.length < 12)
    (hd : dupN (fnm Fn) v → EvM l E w d MX10_breaks [.ref w.1, .int 4, .int (s.1 63)] s (fun r s6 => r = none ∧ Q none s6))
    (hn : ¬ dupN (fnm Fn) v → (EvM l E w d MX10_take [.ref w.1] (sI (sI (sA (sB s 73 (12 * (1 - hf) + Fn.length) (lN v)) 74 (12 * (1 - hf) + Fn.length) (s.1 63)) 72 (nI (Fn.length + 1))) 79 0) (fun r s1 => r = none ∧ (EvM l E w d MX10_parameters [.ref w.1] s1 (fun r s2 => r = none ∧ (inB (nI (12 * (1 - hf) + Fn.length)) 24 ∧ (EvM l E w d MX10_here [.ref w.1] (sA s2 75 (12 * (1 - hf) + Fn.length) (s2.1 79)) (fun r s3 => ∃ v4 : Int32, r = some (.int v4) ∧ (inB (nI (12 * (1 - hf) + Fn.length)) 24 ∧ (EvM l E w d MX10_block [.ref w.1, .int 0, .int (nI (12 * (1 - hf) + Fn.length)), .int 0] (sA s3 77 (12 * (1 - hf) + Fn.length) v4) (fun r s5 => r = none ∧ Q none s5))))))))))) :
    ∀ m i, Fn.length - i ≤ m → i ≤ Fn.length → ∀ b : Bool, (b = true ↔ ((1 ≤ v ∧ v ≤ 8) ∨ ∃ k, k < i ∧ (fnm Fn).getD k 0 = v)) → ExM l E w (d + 1) MX10_function 72 [some (.ref w.1), some (.int (nI (12 * (1 - hf) + Fn.length))), some (.int (bI b)), some (.int (nI (12 * (1 - hf) + i)))] [] s Q := by
  have hlen : (fnm Fn).length = Fn.length := List.length_map ..
  have hB : inB (nI (12 * (1 - hf) + Fn.length)) 24 := inB_n (by omega)
  have e72 : s.1 72 + 1 = nI (Fn.length + 1) := by rw [hF.1, ← nI_succ]
  have hfin : ∀ b : Bool, (b = true ↔ ((1 ≤ v ∧ v ≤ 8) ∨ ∃ k, k < Fn.length ∧ (fnm Fn).getD k 0 = v)) → ((bI b = 0 → (inB (nI (12 * (1 - hf) + Fn.length)) 24 ∧ (inB (nI (12 * (1 - hf) + Fn.length)) 24 ∧ (EvM l E w d MX10_take [.ref w.1] (sI (sI (sA (sB s 73 (nI (12 * (1 - hf) + Fn.length)).toNatClampNeg (s.2.1 64)) 74 (nI (12 * (1 - hf) + Fn.length)).toNatClampNeg (s.1 63)) 72 ((s.1 72) + 1)) 79 0) (fun r s1 => r = none ∧ (EvM l E w d MX10_parameters [.ref w.1] s1 (fun r s2 => r = none ∧ (inB (nI (12 * (1 - hf) + Fn.length)) 24 ∧ (EvM l E w d MX10_here [.ref w.1] (sA s2 75 (nI (12 * (1 - hf) + Fn.length)).toNatClampNeg (s2.1 79)) (fun r s3 => ∃ v4 : Int32, r = some (.int v4) ∧ (inB (nI (12 * (1 - hf) + Fn.length)) 24 ∧ (EvM l E w d MX10_block [.ref w.1, .int 0, .int (nI (12 * (1 - hf) + Fn.length)), .int 0] (sA s3 77 (nI (12 * (1 - hf) + Fn.length)).toNatClampNeg v4) (fun r s5 => r = none ∧ Q none s5))))))))))))) ∧ (¬ bI b = 0 → (EvM l E w d MX10_breaks [.ref w.1, .int 4, .int (s.1 63)] s (fun r s6 => r = none ∧ Q none s6)))) := by
    intro b hb
    have hdd : dupN (fnm Fn) v ↔ b = true := by unfold dupN; rw [hb, mem_getD, hlen]
    cases b with
    | true => exact ⟨fun z => absurd z (by decide), fun _ => hd (hdd.mpr rfl)⟩
    | false =>
      have hnd : ¬ dupN (fnm Fn) v := fun z => absurd (hdd.mp z) (by decide)
      refine ⟨fun _ => ⟨hB, hB, ?_⟩, fun z => absurd rfl z⟩
      rw [nI_clamp (by omega), h64, e72]
      exact hn hnd
  intro m
  induction m with
  | zero =>
    intro i hm hi b hb
    have e : i = Fn.length := by clear hb; omega
    subst e
    exact vX10_function_72 (pk_le (12 * (1 - hf) + Fn.length) (12 * (1 - hf) + Fn.length) (fun _ => hfin b hb) (fun z => absurd z (by omega)) rfl rfl (by omega) (by omega))
  | succ m ih =>
    intro i hm hi b hb
    refine vX10_function_72 (pk_le (12 * (1 - hf) + Fn.length) (12 * (1 - hf) + i) (fun z => ?_) (fun z => ?_) rfl rfl (by omega) (by omega))
    · have e : i = Fn.length := by clear hb; omega
      subst e
      exact hfin b hb
    · rw [← nI_succ]
      have hm' : Fn.length - (i + 1) ≤ m := by clear hb; omega
      have hi' : i + 1 ≤ Fn.length := by clear hb; omega
      have nx : ∀ b' : Bool, (b' = true ↔ (b = true ∨ (fnm Fn).getD i 0 = v)) → ExM l E w (d + 1) MX10_function 72 [some (.ref w.1), some (.int (nI (12 * (1 - hf) + Fn.length))), some (.int (bI b')), some (.int (nI (12 * (1 - hf) + i + 1)))] [] s Q := by
        intro b' hb'
        refine ih (i + 1) hm' hi' b' ?_
        rw [hb', hb]
        constructor
        · rintro ((q | ⟨k, k1, k2⟩) | q)
          · exact Or.inl q
          · exact Or.inr ⟨k, by omega, k2⟩
          · exact Or.inr ⟨i, by omega, q⟩
        · rintro (q | ⟨k, k1, k2⟩)
          · exact Or.inl (Or.inl q)
          · by_cases ek : k = i
            · subst ek; exact Or.inr k2
            · exact Or.inl (Or.inr ⟨k, by omega, k2⟩)
      cases b with
      | true => exact ⟨fun _ => nx true ⟨fun _ => Or.inl rfl, fun _ => rfl⟩, fun z => absurd z (by decide)⟩
      | false =>
        have hcmp : lg_cmp (s.2.2.2 73 (12 * (1 - hf) + i)) (s.2.1 64) = 0 ↔ (fnm Fn).getD i 0 = v := by
          rw [(hF.2.2 i (by clear hb; omega)).1, h64, ← fnm_getD]
          exact lN_cmp (hFb _ (mem_getD.mpr ⟨i, by rw [hlen]; clear hb; omega, rfl⟩)) hv
        refine ⟨fun z => absurd rfl z, fun _ => ⟨inB_n (by clear hb; omega), ?_⟩⟩
        rw [nI_clamp (by clear hb; omega)]
        exact ⟨fun z => nx false ⟨fun y => (by cases y), fun y => y.elim id (fun y => absurd (hcmp.mpr y) z)⟩, fun z => nx true ⟨fun _ => Or.inr (hcmp.mp z), fun _ => rfl⟩⟩
/-- the parameters as a whole: to a fault, or to a place and names -/
def PR (l : Launch) (E : EN) (w : MO) (d : Nat) (ch : Nat → Nat) (n hf o : Nat) (O : Nat → Od) (c : Nat) (B : List Tok) (more : Int32) (p : Nat) (vs : List Nat) (F : Nat → Nat → Prop) (G : Nat → List Nat → Prop) : Prop :=
  ∀ s0 s Q, mXg 1 ch n hf s0 ((p, o + 1), vs, O, c, B, []) s → (∀ k pl, F k pl → ∀ s', mFt ch n hf s0 c k pl s' → ¬ s'.1 66 ≤ 0 → Q none s') → (∀ p' vs', G p' vs' → ∀ s', mXg 1 ch n hf s0 ((p', o), vs', O, c, B, []) s' → Q none s') → PEx l E w d more s Q
theorem getD_lastF (F : List FE) (x : FE) : (F ++ [x]).getD F.length (0, 0, 0, 0, 0) = x := by rw [List.getD_eq_getElem?_getD, List.getElem?_append_right (Nat.le_refl _), Nat.sub_self]; rfl
theorem getD_appF (F : List FE) (x : FE) {k : Nat} (h : k < F.length) : (F ++ [x]).getD k (0, 0, 0, 0, 0) = F.getD k (0, 0, 0, 0, 0) := by rw [List.getD_eq_getElem?_getD, List.getElem?_append_left h, ← List.getD_eq_getElem?_getD]
/-- a function begins -/
theorem T_fn (hst : l.stackTraces = false) (h : mT0 ch n hf s00 (((p, o), vs, O, c, B), [], Fn) s) (hne : ¬ (tk ch n p).1 = 0) (ho : o < 9) (hc : c < 3900) (hFb : ∀ u ∈ fnm Fn, u < 2 ^ 50) {t t1 t2 : Tok} (et : tk ch n p = t) (et1 : tk ch n t.2.2.2 = t1) (et2 : tk ch n t1.2.2.2 = t2)
    (hfn : ¬ kw t = 0 → ∀ s', mTF hf s00 (wk t) t.2.1 s' → Q none s') (hno : kw t = 0 → ¬ (t1.1 = 1 ∧ kw t1 = 41) → ∀ s', mTF hf s00 (wk t1) t1.2.1 s' → Q none s') (hfull : kw t = 0 → t1.1 = 1 → kw t1 = 41 → Fn.length = 12 → ∀ s', mTF hf s00 3 t1.2.1 s' → Q none s') (hdup : kw t = 0 → t1.1 = 1 → kw t1 = 41 → Fn.length < 12 → dupN (fnm Fn) t1.2.2.1 → ∀ s', mTF hf s00 4 t1.2.1 s' → Q none s')
    (hbr : kw t = 0 → t1.1 = 1 → kw t1 = 41 → Fn.length < 12 → ¬ dupN (fnm Fn) t1.2.2.1 → ¬ (t2.1 = 3 ∧ t2.2.2.1 = 40) → ∀ s', mTF hf s00 (wk t2) t2.2.1 s' → Q none s')
    (hp : kw t = 0 → t1.1 = 1 → kw t1 = 41 → Fn.length < 12 → ¬ dupN (fnm Fn) t1.2.2.1 → t2.1 = 3 → t2.2.2.1 = 40 → PR l E w (d + 1) ch n hf o O c B (bI (decide (¬ ((tk ch n t2.2.2.2).1 = 3 ∧ (tk ch n t2.2.2.2).2.2.1 = 41)))) t2.2.2.2 [] (fun k pl => ∀ s', mTF hf s00 k pl s' → Q none s') (fun p' vs' => (¬ ((tk ch n p').1 = 3 ∧ (tk ch n p').2.2.1 = 123) → ∀ s', mTF hf s00 (wk (tk ch n p')) (tk ch n p').2.1 s' → Q none s') ∧ ((tk ch n p').1 = 3 → (tk ch n p').2.2.1 = 123 → ∀ s', mTt ch n hf s00 ((((tk ch n p').2.2.2, o + 1), vs', O, c, B), [(0, 12 * (1 - hf) + Fn.length, 0)], Fn ++ [(t1.2.2.1, t1.2.1, vs'.length, 4000 * (1 - hf) + c, 0)]) s' → TE l E w d s' Q))) : TE l E w d s Q := by
  subst et
  subst et1
  subst et2
  have hX := h.x
  have hTk : mTk s (tk ch n p) := hX.2.1.1
  have ht : tkW n p (tk ch n p) := hX.1.tk hX.2.1.2
  have h14 : (tk ch n p).1 ≤ 4 := ht.1.1
  have h66 := hX.2.2.1.1
  have h94 : s.1 94 = nI 0 := h.n94
  have hh := hX.1.2.2.2.1
  have h69 := hX.1.2.2.1
  have hF := h.fn
  refine vX10_textOf_5 ⟨fun z => absurd h66 z, fun _ => pk_lt 0 0 (fun z => by omega) (fun _ => pk_eq (tk ch n p).1 0 (fun z => absurd z hne) (fun _ => bn_eq 0 0 (fun z => absurd rfl z) (fun _ => ?_) h94 rfl) hTk.1 rfl) rfl h94⟩
  have fn0 : ∀ {cb nb k pl : Nat} {s' : MS}, tF hf s00 cb nb k pl s' → (∀ s', mTF hf s00 k pl s' → Q none s') → EvM l E w (d + 12) MX10_function [.ref w.1] s' (fun r s12 => r = none ∧ TE l E w d s12 Q) := fun h' hQ => eX10_function hst ⟨fun z => absurd z h'.pos, fun _ => ⟨rfl, h'.fin hQ⟩⟩
  refine M_word hst (x := 0) (by omega) hX (fun z s2 h2 h66' => ⟨rfl, fn0 (h2.tF h66' h.ft h.n94) (hfn z)⟩) (fun z0 s2 h2 => ⟨rfl, ?_⟩)
  have hTk2 : mTk s2 (tk ch n (tk ch n p).2.2.2) := h2.2.1.1
  have ht2 : tkW n (tk ch n p).2.2.2 (tk ch n (tk ch n p).2.2.2) := h2.1.tk h2.2.1.2
  have h662 := h2.2.2.1.1
  have hF2 := hF.fr h2.frm
  have h69' : s2.1 69 = nI hf := h2.1.2.2.1
  have h72 : s2.1 72 = nI Fn.length := hF2.1
  have hl12 := hF2.2.1
  have ft2 : mfT hf s00 s2 := h.ft.trans (mfT.ofX h2.frm)
  have b942 : s2.1 94 = nI 0 := (h2.frm.1 94 (by decide)).trans h94
  have hx2 := h2.rebase
  have fin0 : ∀ {cb nb k pl : Nat} {s' : MS}, tF hf s00 cb nb k pl s' → (∀ s', mTF hf s00 k pl s' → Q none s') → (none : Option Value) = none ∧ TE l E w d s' Q := fun h' hQ => ⟨rfl, h'.fin hQ⟩
  have brk : ∀ kk, 1 ≤ kk → kk ≤ 6 → (∀ s', mTF hf s00 kk (tk ch n (tk ch n p).2.2.2).2.1 s' → Q none s') → EvM l E w (d + 11) MX10_breaks [.ref w.1, .int (nI kk), .int (s2.1 63)] s2 (fun r s5 => r = none ∧ ((none : Option Value) = none ∧ TE l E w d s5 Q)) := by
    intro kk k1 k6 hQ
    have hF' : mFt ch n hf s2 c kk (tk ch n (tk ch n p).2.2.2).2.1 (sI (sI s2 66 (nI kk)) 67 (s2.1 63)) := ⟨hx2.1.fr ((mfX.sI _ _ 66 _).trans (mfX.sI _ _ 67 _)), ⟨c, h2.2.2.2.2.1.1, Nat.le_refl _⟩, Or.inl ⟨k1, k6, rfl, hTk2.2.1⟩⟩
    have hp : ¬ (sI (sI s2 66 (nI kk)) 67 (s2.1 63)).1 66 ≤ 0 := by
      show ¬ (nI kk : Int32) ≤ 0
      rcases (show kk = 1 ∨ kk = 2 ∨ kk = 3 ∨ kk = 4 ∨ kk = 5 ∨ kk = 6 by omega) with rfl | rfl | rfl | rfl | rfl | rfl <;> decide
    exact M_breaks hst h662 ⟨rfl, fin0 (hF'.tF hp ft2 b942) hQ⟩
  refine eX10_function hst ⟨fun _ => M_isName hst h2.1.2.1 hTk2 ht2.1.1 ht2.2.1 ⟨_, rfl, bn_b (fun z => ?_) (fun z => ?_)⟩, fun z => absurd (by rw [h662]; decide) z⟩
  · have hF' := mFt.told (t := tk ch n (tk ch n p).2.2.2) (k := wk (tk ch n (tk ch n p).2.2.2)) hx2.1 ⟨c, h2.2.2.2.2.1.1, Nat.le_refl _⟩ rfl rfl
    exact M_wrong hst hTk2 ht2.1.1 h662 ⟨rfl, fin0 (hF'.tF (by show ¬ (nI (wk (tk ch n (tk ch n p).2.2.2)) : Int32) ≤ 0; unfold wk; split <;> decide) ft2 b942) (hno z0 z)⟩
  refine bn_eq Fn.length 12 (fun z12 => ?_) (fun z12 => brk 3 (by omega) (by omega) (hfull z0 z.1 z.2 z12)) h72 rfl
  intro y3 ey3
  have hl : Fn.length < 12 := by omega
  have e12 : (12 : Int32) * (1 - nI hf) = nI (12 * (1 - hf)) := by
    rcases (show hf = 0 ∨ hf = 1 by omega) with e | e <;> rw [e] <;> decide
  rw [h69', e12, h72, nI_add] at ey3
  subst ey3
  have h64 : s2.2.1 64 = lN (tk ch n (tk ch n p).2.2.2).2.2.1 := hTk2.2.2.2.1 (Or.inl z.1)
  rw [h64]
  refine MP_isShelf hst ht2.2.1 ⟨_, rfl, fun y6 ey6 => ?_⟩
  rw [h69', e12] at ey6
  subst ey6
  have hsh : decide (1 ≤ (tk ch n (tk ch n p).2.2.2).2.2.1 ∧ (tk ch n (tk ch n p).2.2.2).2.2.1 ≤ 8) = true ↔ ((1 ≤ (tk ch n (tk ch n p).2.2.2).2.2.1 ∧ (tk ch n (tk ch n p).2.2.2).2.2.1 ≤ 8) ∨ ∃ k, k < 0 ∧ (fnm Fn).getD k 0 = (tk ch n (tk ch n p).2.2.2).2.2.1) := by
    rw [decide_eq_true_iff]
    constructor
    · exact fun q => Or.inl q
    · rintro (q | ⟨k, k1, -⟩)
      · exact q
      · omega
  refine fn72 hst hF2 hh h64 ht2.2.1 hFb hl (fun y => brk 4 (by omega) (by omega) (hdup z0 z.1 z.2 hl y)) (fun y => ?_) Fn.length 0 (by omega) (by omega) _ hsh
  rw [hTk2.2.1]
  have hR := reg_x (v := (tk ch n (tk ch n p).2.2.2).2.2.1) (at' := (tk ch n (tk ch n p).2.2.2).2.1) hx2 (12 * (1 - hf) + Fn.length) (Fn.length + 1)
  obtain ⟨sR, eR⟩ : ∃ sR, sR = regS s2 (12 * (1 - hf) + Fn.length) (tk ch n (tk ch n p).2.2.2).2.2.1 (tk ch n (tk ch n p).2.2.2).2.1 (Fn.length + 1) := ⟨_, rfl⟩
  rw [← eR] at hR
  have fR : mfT hf s00 sR := by
    rw [eR]
    exact ft2.trans ((((mfT.sN s2 (by omega)).trans (mfT.sF _ (by decide) (by omega))).trans (mfT.sI72 _ _)).trans (mfT.ofX (mfX.sI _ _ 79 _)))
  have b94R : sR.1 94 = nI 0 := by rw [eR]; exact b942
  have n72R : sR.1 72 = nI (Fn.length + 1) := by rw [eR]; rfl
  have n73R : ∀ i, sR.2.2.2 73 i = if i = 12 * (1 - hf) + Fn.length then lN (tk ch n (tk ch n p).2.2.2).2.2.1 else s2.2.2.2 73 i := by
    intro i; rw [eR]
    by_cases e : i = 12 * (1 - hf) + Fn.length
    · rw [if_pos e, e]; exact sB_at s2 _ _ _
    · rw [if_neg e]; exact sB_ne s2 _ (fun q => e q.2)
  have n74R : ∀ j i, sR.2.2.1 j i = if j = 74 ∧ i = 12 * (1 - hf) + Fn.length then nI (tk ch n (tk ch n p).2.2.2).2.1 else s2.2.2.1 j i := by
    intro j i; rw [eR]
    by_cases e : j = 74 ∧ i = 12 * (1 - hf) + Fn.length
    · rw [if_pos e, e.1, e.2]; exact sA_at (sB s2 73 _ _) _ _ _
    · rw [if_neg e]; exact sA_ne (sB s2 73 _ _) _ e
  have goal0 : EvM l E w (d + 11) MX10_take [.ref w.1] sR (fun r s1 => r = none ∧ (EvM l E w (d + 11) MX10_parameters [.ref w.1] s1 (fun r s2 => r = none ∧ (inB (nI (12 * (1 - hf) + Fn.length)) 24 ∧ (EvM l E w (d + 11) MX10_here [.ref w.1] (sA s2 75 (12 * (1 - hf) + Fn.length) (s2.1 79)) (fun r s3 => ∃ v4 : Int32, r = some (.int v4) ∧ (inB (nI (12 * (1 - hf) + Fn.length)) 24 ∧ (EvM l E w (d + 11) MX10_block [.ref w.1, .int 0, .int (nI (12 * (1 - hf) + Fn.length)), .int 0] (sA s3 77 (12 * (1 - hf) + Fn.length) v4) (fun r s5 => r = none ∧ ((none : Option Value) = none ∧ TE l E w d s5 Q)))))))))) := by
    have hB : inB (nI (12 * (1 - hf) + Fn.length)) 24 := inB_n (by omega)
    -- a fault in the parameters
    have flt : ∀ {k pl : Nat} {s' : MS}, mFt ch n hf sR c k pl s' → ¬ s'.1 66 ≤ 0 → (∀ s', mTF hf s00 k pl s' → Q none s') → (inB (nI (12 * (1 - hf) + Fn.length)) 24 ∧ (EvM l E w (d + 11) MX10_here [.ref w.1] (sA s' 75 (12 * (1 - hf) + Fn.length) (s'.1 79)) (fun r s3 => ∃ v4 : Int32, r = some (.int v4) ∧ (inB (nI (12 * (1 - hf) + Fn.length)) 24 ∧ (EvM l E w (d + 11) MX10_block [.ref w.1, .int 0, .int (nI (12 * (1 - hf) + Fn.length)), .int 0] (sA s3 77 (12 * (1 - hf) + Fn.length) v4) (fun r s5 => r = none ∧ ((none : Option Value) = none ∧ TE l E w d s5 Q))))))) := by
      intro k pl s' hF' h66' hQ
      have t1 := hF'.tF h66' fR b94R
      have pat : ∀ {s' : MS} {j : Nat} {x : Int32}, j ∈ [74, 75, 76, 77] → tF hf s00 c 0 k pl s' → tF hf s00 c 0 k pl (sA s' j (12 * (1 - hf) + Fn.length) x) := fun hj q => ⟨q.1, q.2.1.trans (mfT.sF _ hj (by omega)), q.2.2⟩
      refine ⟨hB, eX10_here hst ⟨_, rfl, hB, tF_block hst (pat (by decide) (pat (by decide) t1)) (by omega) (fun s5 h5 => ⟨rfl, rfl, h5.fin hQ⟩)⟩⟩
    refine hR.takeX hst (fun s3 h3 => ⟨rfl, ?_⟩)
    have hTk3 : mTk s3 (tk ch n (tk ch n (tk ch n p).2.2.2).2.2.2) := h3.2.1.1
    refine eX10_parameters hst (MP_opens hst (k := 40) h3 (by decide) (fun q s4 h4 _ h66' => ⟨rfl, fun z => absurd z h66', fun _ => ⟨rfl, flt h4 h66' (hbr z0 z.1 z.2 hl y q)⟩⟩) (fun _ _ q => by omega) (fun q1 q2 _ s4 h4 => ⟨rfl, fun _ => ?_, fun z => absurd (by rw [h4.2.2.1.1]; decide) z⟩))
    have hTk4 : mTk s4 (tk ch n (tk ch n (tk ch n (tk ch n p).2.2.2).2.2.2).2.2.2) := h4.2.1.1
    have ht4 : tkW n (tk ch n (tk ch n (tk ch n p).2.2.2).2.2.2).2.2.2 (tk ch n (tk ch n (tk ch n (tk ch n p).2.2.2).2.2.2).2.2.2) := h4.1.tk h4.2.1.2
    have PRx := hp z0 z.1 z.2 hl y q1 q2 sR s4 (fun r s2 => r = none ∧ (inB (nI (12 * (1 - hf) + Fn.length)) 24 ∧ (EvM l E w (d + 11) MX10_here [.ref w.1] (sA s2 75 (12 * (1 - hf) + Fn.length) (s2.1 79)) (fun r s3 => ∃ v4 : Int32, r = some (.int v4) ∧ (inB (nI (12 * (1 - hf) + Fn.length)) 24 ∧ (EvM l E w (d + 11) MX10_block [.ref w.1, .int 0, .int (nI (12 * (1 - hf) + Fn.length)), .int 0] (sA s3 77 (12 * (1 - hf) + Fn.length) v4) (fun r s5 => r = none ∧ ((none : Option Value) = none ∧ TE l E w d s5 Q)))))))) h4 (fun k pl hQ s5 h5 h66' => ⟨rfl, flt h5 h66' hQ⟩) (fun p' vs' hG s5 h5 => ⟨rfl, hB, ?_⟩)
    · refine M_isSign hst (c := 41) hTk4 ht4.1.1 ht4.2.1 (by decide) ⟨_, rfl, bn_b (fun q => ?_) (fun q => ?_)⟩
      · rw [decide_eq_true q] at PRx; exact PRx
      · rw [decide_eq_false (fun r => r q)] at PRx; exact PRx
    · have e79 : s5.1 79 = nI vs'.length := h5.vv.1
      rw [e79]
      obtain ⟨s6, e6⟩ : ∃ s6, s6 = sA s5 75 (12 * (1 - hf) + Fn.length) (nI vs'.length) := ⟨_, rfl⟩
      rw [← e6]
      have h6 : mXg 1 ch n hf s6 ((p', o), vs', O, c, B, []) s6 := by
        rw [e6]
        exact h5.cgT (fun _ _ _ => rfl) rfl (fun j hj => funext fun i => sA_ne s5 _ (fun e => hj (by rw [e.1]; decide))) (fun _ _ => rfl)
      refine M_here hst h6 ⟨_, rfl, hB, ?_⟩
      obtain ⟨s7, e7⟩ : ∃ s7, s7 = sA s6 77 (12 * (1 - hf) + Fn.length) (nI (4000 * (1 - hf) + c)) := ⟨_, rfl⟩
      show EvM l E w (d + 11) MX10_block [.ref w.1, .int 0, .int (nI (12 * (1 - hf) + Fn.length)), .int 0] (sA s6 77 (12 * (1 - hf) + Fn.length) (nI (4000 * (1 - hf) + c))) _
      rw [← e7]
      have h7 : mXg 1 ch n hf s7 ((p', o), vs', O, c, B, []) s7 := by
        rw [e7]
        exact h6.cgT (fun _ _ _ => rfl) rfl (fun j hj => funext fun i => sA_ne s6 _ (fun e => hj (by rw [e.1]; decide))) (fun _ _ => rfl)
      have fr5 := h5.frm
      have f7 : mfT hf s00 s7 := by
        rw [e7, e6]
        exact ((fR.trans (mfT.ofX fr5)).trans (mfT.sF _ (by decide) (by omega))).trans (mfT.sF _ (by decide) (by omega))
      have a7 : ∀ j i, (¬ j = 75 ∨ ¬ i = 12 * (1 - hf) + Fn.length) → (¬ j = 77 ∨ ¬ i = 12 * (1 - hf) + Fn.length) → s7.2.2.1 j i = s5.2.2.1 j i := fun j i h1 h2 => by
        rw [e7, e6]
        exact (sA_ne _ _ (fun e => by omega)).trans (sA_ne s5 _ (fun e => by omega))
      have l7 : s7.2.2.2 = s5.2.2.2 ∧ s7.1 = s5.1 := by rw [e7, e6]; exact ⟨rfl, rfl⟩
      have n5 : ∀ j ∈ [74, 75, 76, 77], s5.2.2.1 j = sR.2.2.1 j := fun j hj => fr5.2.2.1 j (by
        simp only [List.mem_cons, List.not_mem_nil, or_false] at hj
        rcases hj with rfl | rfl | rfl | rfl <;> decide)
      have hF7 : mFn hf s7 (Fn ++ [((tk ch n (tk ch n p).2.2.2).2.2.1, (tk ch n (tk ch n p).2.2.2).2.1, vs'.length, 4000 * (1 - hf) + c, 0)]) := by
        have hlen1 : (Fn ++ [((tk ch n (tk ch n p).2.2.2).2.2.1, (tk ch n (tk ch n p).2.2.2).2.1, vs'.length, 4000 * (1 - hf) + c, 0)]).length = Fn.length + 1 := by rw [List.length_append]; rfl
        refine ⟨by rw [hlen1, l7.2, fr5.1 72 (by decide)]; exact n72R, by omega, fun k hk => ?_⟩
        rw [hlen1] at hk
        have e73 : s7.2.2.2 73 = sR.2.2.2 73 := by rw [l7.1, fr5.2.2.2.1 73 (by decide)]
        by_cases ek : k = Fn.length
        · subst ek
          rw [getD_lastF]
          refine ⟨?_, ?_, ?_, ?_, fun q => absurd rfl q⟩
          · rw [e73, n73R, if_pos rfl]
          · rw [a7 74 _ (Or.inl (by decide)) (Or.inl (by decide)), n5 74 (by decide), n74R, if_pos ⟨rfl, rfl⟩]
          · rw [e7, e6]; exact (sA_ne _ _ (fun e => absurd e.1 (by decide))).trans (sA_at s5 _ _ _)
          · rw [e7]; exact sA_at s6 _ _ _
        · rw [getD_appF _ _ (by omega)]
          obtain ⟨q1, q2, q3, q4, q5⟩ := hF2.2.2 k (by omega)
          have ne : ¬ 12 * (1 - hf) + k = 12 * (1 - hf) + Fn.length := by omega
          have old : ∀ j ∈ [74, 75, 76, 77], s7.2.2.1 j (12 * (1 - hf) + k) = s2.2.2.1 j (12 * (1 - hf) + k) := fun j hj => by
            rw [a7 j _ (Or.inr ne) (Or.inr ne), n5 j hj, n74R, if_neg (fun e => ne e.2)]
          rw [e73, n73R, if_neg ne, old 74 (by decide), old 75 (by decide), old 76 (by decide), old 77 (by decide)]
          exact ⟨q1, q2, q3, q4, q5⟩
      have b7 : mBl s7 [] := ⟨by rw [l7.2, fr5.1 94 (by decide)]; exact b94R, trivial⟩
      exact M_block (zB := (0, 12 * (1 - hf) + Fn.length, 0)) (Bl := []) hst h7 b7 hF7 f7 (by show 0 ≤ 11; omega) rfl rfl rfl (fun q s8 h8 => ⟨rfl, rfl, h8.fin (hG.1 q)⟩) (fun _ _ q => by omega) (fun q1 q2 _ s8 h8 => ⟨rfl, rfl, hG.2 q1 q2 s8 h8⟩)
  rw [eR] at goal0
  exact goal0
/-- the text's end -/
theorem T_end (h : mT0 ch n hf s00 (((p, o), vs, O, c, B), [], Fn) s) (h0 : (tk ch n p).1 = 0) (hQ : Q none s) : TE l E w d s Q := by
  have hX := h.x
  have hTk : mTk s (tk ch n p) := hX.2.1.1
  have h94 : s.1 94 = nI 0 := h.n94
  exact vX10_textOf_5 ⟨fun z => absurd hX.2.2.1.1 z, fun _ => pk_lt 0 0 (fun z => by omega) (fun _ => pk_eq (tk ch n p).1 0 (fun _ => hQ) (fun z => absurd h0 z) hTk.1 rfl) rfl h94⟩
/-- a function ends -/
theorem T_clF (hst : l.stackTraces = false) {nm pa fr : Nat} (h : mTt ch n hf s00 (((p, o), vs, O, c, B), [(0, 12 * (1 - hf) + Fn.length, t)], Fn ++ [(nm, at', pa, fr, 0)]) s) (h125 : (tk ch n p).1 = 3 ∧ (tk ch n p).2.2.1 = 125) (ho : 1 ≤ o) (hc : c < 3950)
    (hok : ∀ s', mTt ch n hf s00 ((((tk ch n p).2.2.2, o - 1), vs, oup (oup O (4000 * (1 - hf) + c) (2, 0, 0, 0, 0)) (4000 * (1 - hf) + (c + 1)) (20, 0, 0, 0, 0), c + 1 + 1, B), [], Fn ++ [(nm, at', pa, fr, vs.length + 1)]) s' → TE l E w d s' Q) : TE l E w d s Q := by
  have hlen1 : ∀ x : FE, (Fn ++ [x]).length = Fn.length + 1 := fun x => by rw [List.length_append]; rfl
  have hl := h.fn.2.1
  rw [hlen1] at hl
  have hh := h.x.1.2.2.2.1
  refine cl_head hst h h125 ho (by show 0 ≤ 11; omega) (fun s2 hm s1 y2 es e94 ey2 ⟨e91, e93⟩ => ?_)
  rw [e91, ey2]
  refine pk_eq 0 0 (fun _ => ?_) (fun z => absurd rfl z) rfl rfl
  refine MP_order hst (od := (2, 0, 0, 0, 0)) hm.x (by omega) rfl rfl rfl rfl (by show ¬ 2 = 13; omega) (fun s3 h3 _ => ⟨_, rfl, MP_order hst (od := (20, 0, 0, 0, 0)) h3 (by omega) rfl rfl rfl rfl (by show ¬ 20 = 13; omega) (fun s4 h4 _ => ⟨_, rfl, inB_n (by omega), rfl, ?_⟩)⟩)
  rw [nI_clamp (by omega), show s4.1 79 = nI vs.length from h4.vv.1]
  refine hok _ ⟨h4.cgT (fun _ _ _ => rfl) rfl (fun j hj => funext fun i => sA_ne s4 _ (fun e => hj (by rw [e.1]; decide))) (fun _ _ => rfl), ⟨(h4.frm.1 94 (by decide)).trans hm.n94, trivial⟩, ?_, (hm.ft.trans (mfT.ofX h4.frm)).trans (mfT.sF _ (by decide) (by omega))⟩
  have hF4 := hm.fn.fr h4.frm
  refine ⟨by rw [hlen1]; have := hF4.1; rw [hlen1] at this; exact this, by rw [hlen1]; omega, fun k hk => ?_⟩
  rw [hlen1] at hk
  have hq := hF4.2.2 k (by rw [hlen1]; exact hk)
  have old : ∀ j, ¬ j = 76 → (sA s4 76 (12 * (1 - hf) + Fn.length) (nI vs.length)).2.2.1 j = s4.2.2.1 j := fun j hj => funext fun i => sA_ne s4 _ (fun e => hj e.1)
  by_cases ek : k = Fn.length
  · subst ek
    rw [getD_lastF] at hq ⊢
    rw [old 74 (by decide), old 75 (by decide), old 77 (by decide)]
    exact ⟨hq.1, hq.2.1, hq.2.2.1, hq.2.2.2.1, fun _ => sA_at s4 _ _ _⟩
  · rw [getD_appF _ _ (by omega)] at hq ⊢
    rw [old 74 (by decide), old 75 (by decide), old 77 (by decide)]
    exact ⟨hq.1, hq.2.1, hq.2.2.1, hq.2.2.2.1, fun q => (sA_ne s4 _ (fun e => by omega)).trans (hq.2.2.2.2 q)⟩
end SG8
