/-! EXPRESSIONS OF THE MODEL: brackets, names, calls -/
theorem tk_brk {ch : Nat → Nat} {n b : Nat} : bt ch n (sk ch n b) = 40 ↔ ((tk ch n b).1 = 3 ∧ (tk ch n b).2.2.1 = 40) := by
  unfold tk
  dsimp only
  by_cases h0 : n ≤ sk ch n b
  · rw [if_pos h0]
    unfold bt
    rw [if_neg (by omega)]
    exact ⟨fun z => absurd z (by decide), fun z => absurd z.1 (show ¬ 0 = 3 by decide)⟩
  rw [if_neg h0]
  have hb : bt ch n (sk ch n b) = ch (sk ch n b) := if_pos (by omega)
  rw [hb]
  constructor
  · intro e
    rw [e, if_neg (by decide), if_neg (by decide), if_neg (fun z => absurd z.1 (by decide)), if_pos (by decide)]
    exact ⟨rfl, rfl⟩
  · intro z
    split at z
    · split at z <;> exact absurd z.1 (Nat.ne_of_beq_eq_false rfl)
    split at z
    · split at z <;> exact absurd z.1 (Nat.ne_of_beq_eq_false rfl)
    split at z
    · have := z.2; dsimp only at this; omega
    split at z
    · exact z.2
    · exact absurd z.1 (Nat.ne_of_beq_eq_false rfl)
section XE6
variable {l : Launch} {E : EN} {w : MO} {d : Nat} {s s0 s' : MS} {Q : Option Value → MS → Prop} {ch : Nat → Nat} {n hf p p' o o' c k pl : Nat} {vs : List Nat} {O : Nat → Od} {B : List Tok} {X : List XE} {x : XE} {al : Int32} {q q' : Nat × Nat} {z' : PZ}
theorem kw_le (t : Tok) : kw t ≤ 41 := by
  unfold kw
  split
  · exact (kwF_is _ 41 (Nat.le_refl _)).1
  · exact Nat.le_refl _
theorem st80_40 (hst : l.stackTraces = false) (h : mX ch n hf s0 ((p, o), vs, O, c, B, X) s) (hl : X.length ≤ 74) (h3 : (tk ch n p).1 = 3) (hv : (tk ch n p).2.2.1 = 40) {a2 : Int32} (hdp : o = 10 → ∀ s', mFt ch n hf s0 c 3 (tk ch n p).2.1 s' → ¬ s'.1 66 ≤ 0 → Q (some (.int 0)) s') (hok : o < 10 → ∀ s', mX ch n hf s0 (((tk ch n p).2.2.2, o + 1), vs, O, c, B, (3, 0, 0, (tk ch n p).2.1, 0, 0) :: X) s' → Q (some (.int 0)) s') : ExM l E w (d + 9) MX10_starts 80 [some (.ref w.1), some (.int (nI (tk ch n p).2.1)), some (.int a2), none] [] s Q := by
  have ht := h.1.tk h.2.1.2
  refine vX10_starts_80 (M_isSign hst (c := 40) h.2.1.1 ht.1.1 ht.2.1 (by decide) ⟨_, rfl, pk_b (fun z => absurd ⟨h3, hv⟩ z) (fun _ => ?_)⟩)
  refine MP_opens hst (k := 40) h (by decide) (fun z => absurd ⟨h3, hv⟩ z) (fun _ _ z s1 hs1 h101 h66 => ⟨rfl, MP_waitF hst hs1 (h101 (Nat.le_refl _)) (by omega) (fun s2 hs2 e66 => ⟨rfl, hdp z s2 hs2 (by rw [e66]; exact h66)⟩)⟩) (fun _ _ ho s1 hs1 => ⟨rfl, MP_wait1 hst (k := 3) (a := 0) (pl := (tk ch n p).2.1) hs1 (by omega) rfl rfl rfl (by decide) (by decide) (fun z => absurd z (by decide)) (fun z => absurd z (by decide)) (fun s2 hs2 => ⟨rfl, hok ho s2 hs2⟩)⟩)
theorem st80_91 (hst : l.stackTraces = false) (h : mX ch n hf s0 ((p, o), vs, O, c, B, X) s) (hl : X.length ≤ 74) (hc : c < 3900) (h3 : (tk ch n p).1 = 3) (hv : (tk ch n p).2.2.1 = 91) {a2 : Int32} (hdp : o = 10 → ∀ s', mFt ch n hf s0 c 3 (tk ch n p).2.1 s' → ¬ s'.1 66 ≤ 0 → Q (some (.int 0)) s')
    (hok : o < 10 → ¬ ((tk ch n (tk ch n p).2.2.2).1 = 3 ∧ (tk ch n (tk ch n p).2.2.2).2.2.1 = 93) → ∀ s', mX ch n hf s0 (((tk ch n p).2.2.2, o + 1), vs, O, c, B, (5, 0, 0, (tk ch n p).2.1, 0, 0) :: X) s' → Q (some (.int 0)) s')
    (hok0 : o < 10 → (tk ch n (tk ch n p).2.2.2).1 = 3 → (tk ch n (tk ch n p).2.2.2).2.2.1 = 93 → ∀ s', mX ch n hf s0 (((tk ch n (tk ch n p).2.2.2).2.2.2, o), vs, oup O (4000 * (1 - hf) + c) (6, 0, 0, 0, nI (tk ch n p).2.1), c + 1, B, X) s' → Q (some (.int 1)) s') : ExM l E w (d + 9) MX10_starts 80 [some (.ref w.1), some (.int (nI (tk ch n p).2.1)), some (.int a2), none] [] s Q := by
  have ht := h.1.tk h.2.1.2
  refine vX10_starts_80 (M_isSign hst (c := 40) h.2.1.1 ht.1.1 ht.2.1 (by decide) ⟨_, rfl, pk_b (fun _ => ?_) (fun z => absurd (hv.symm.trans z.2) (by decide))⟩)
  refine M_isSign hst (c := 91) h.2.1.1 ht.1.1 ht.2.1 (by decide) ⟨_, rfl, pk_b (fun z => absurd ⟨h3, hv⟩ z) (fun _ => ?_)⟩
  refine MP_opens hst (k := 91) h (by decide) (fun z => absurd ⟨h3, hv⟩ z) (fun _ _ z s1 hs1 h101 h66 => ⟨rfl, MP_waitF hst hs1 (h101 (Nat.le_refl _)) (by omega) (fun s2 hs2 e66 => ⟨rfl, ⟨fun _ => hdp z s2 hs2 (by rw [e66]; exact h66), fun q => absurd (by rw [← e66, q]; decide) h66⟩⟩)⟩) (fun _ _ ho s1 hs1 => ⟨rfl, MP_wait1 hst (k := 5) (a := 0) (pl := (tk ch n p).2.1) hs1 (by omega) rfl rfl rfl (by decide) (by decide) (fun z => absurd z (by decide)) (fun z => absurd z (by decide)) (fun s2 hs2 => ⟨rfl, ⟨fun q => absurd hs2.2.2.1.1 q, fun _ => ?_⟩⟩)⟩)
  have ht2 := hs2.1.tk hs2.2.1.2
  refine M_isSign hst (c := 93) hs2.2.1.1 ht2.1.1 ht2.2.1 (by decide) ⟨_, rfl, pk_b (fun z => hok ho z s2 hs2) (fun z => ?_)⟩
  exact ends2_5 hst hs2 rfl (by omega) hc (by omega) (fun y => absurd z y) (fun _ _ s' hs' => ⟨_, rfl, ⟨fun q => absurd q (by decide), fun _ => hok0 ho z.1 z.2 s' hs'⟩⟩)
theorem XF_paren (hst : l.stackTraces = false) (h3 : (tk ch n p).1 = 3) (hv : (tk ch n p).2.2.1 = 40) (ho : o < 10) (hl : X.length ≤ 74) (hc : c < 3900) : XF l E w d al ch n hf s0 (0, 0) ((p, o), vs, O, c, B, X) (0, 0) (((tk ch n p).2.2.2, o + 1), vs, O, c, B, (3, 0, 0, (tk ch n p).2.1, 0, 0) :: X) :=
  fun s0 Q hQ s hs => Exp.go0 (mP0' hs).2.2.1.1 (MP_starts hst (mP0' hs) hl hc (fun z => absurd (h3.symm.trans z) (by decide)) (fun _ z => absurd z (by omega)) (fun _ _ => st80_40 hst (mP0' hs) hl h3 hv (fun z => absurd z (by omega)) (fun _ s' hs' => ⟨_, rfl, hQ s' (mP0 hs')⟩)))
theorem XB_paren (hst : l.stackTraces = false) (h3 : (tk ch n p).1 = 3) (hv : (tk ch n p).2.2.1 = 40) (ho : o = 10) (hl : X.length ≤ 74) (hc : c < 3900) : XB l E w d al ch n hf s0 (0, 0) ((p, o), vs, O, c, B, X) 3 (tk ch n p).2.1 :=
  fun s0 Q hQ s hs => Exp.go0 (mP0' hs).2.2.1.1 (MP_starts hst (mP0' hs) hl hc (fun z => absurd (h3.symm.trans z) (by decide)) (fun _ z => absurd z (by omega)) (fun _ _ => st80_40 hst (mP0' hs) hl h3 hv (fun _ s' hs' h66 => ⟨_, rfl, hs'.fin h66 (by omega) hQ⟩) (fun z => absurd z (by omega))))
theorem XF_brk (hst : l.stackTraces = false) (h3 : (tk ch n p).1 = 3) (hv : (tk ch n p).2.2.1 = 91) (ho : o < 10) (hl : X.length ≤ 74) (hc : c < 3900) (hn : ¬ ((tk ch n (tk ch n p).2.2.2).1 = 3 ∧ (tk ch n (tk ch n p).2.2.2).2.2.1 = 93)) : XF l E w d al ch n hf s0 (0, 0) ((p, o), vs, O, c, B, X) (0, 0) (((tk ch n p).2.2.2, o + 1), vs, O, c, B, (5, 0, 0, (tk ch n p).2.1, 0, 0) :: X) :=
  fun s0 Q hQ s hs => Exp.go0 (mP0' hs).2.2.1.1 (MP_starts hst (mP0' hs) hl hc (fun z => absurd (h3.symm.trans z) (by decide)) (fun _ z => absurd z (by omega)) (fun _ _ => st80_91 hst (mP0' hs) hl hc h3 hv (fun z => absurd z (by omega)) (fun _ _ s' hs' => ⟨_, rfl, hQ s' (mP0 hs')⟩) (fun _ z1 z2 => absurd ⟨z1, z2⟩ hn)))
theorem XF_brk0 (hst : l.stackTraces = false) (h3 : (tk ch n p).1 = 3) (hv : (tk ch n p).2.2.1 = 91) (ho : o < 10) (hl : X.length ≤ 74) (hc : c < 3900) (hn : (tk ch n (tk ch n p).2.2.2).1 = 3 ∧ (tk ch n (tk ch n p).2.2.2).2.2.1 = 93) : XF l E w d al ch n hf s0 (0, 0) ((p, o), vs, O, c, B, X) (1, 0) (((tk ch n (tk ch n p).2.2.2).2.2.2, o), vs, oup O (4000 * (1 - hf) + c) (6, 0, 0, 0, nI (tk ch n p).2.1), c + 1, B, X) :=
  fun s0 Q hQ s hs => Exp.go0 (mP0' hs).2.2.1.1 (MP_starts hst (mP0' hs) hl hc (fun z => absurd (h3.symm.trans z) (by decide)) (fun _ z => absurd z (by omega)) (fun _ _ => st80_91 hst (mP0' hs) hl hc h3 hv (fun z => absurd z (by omega)) (fun _ z => absurd hn z) (fun _ _ _ s' hs' => ⟨_, rfl, hQ s' (mP1 hs')⟩)))
theorem XB_brk (hst : l.stackTraces = false) (h3 : (tk ch n p).1 = 3) (hv : (tk ch n p).2.2.1 = 91) (ho : o = 10) (hl : X.length ≤ 74) (hc : c < 3900) : XB l E w d al ch n hf s0 (0, 0) ((p, o), vs, O, c, B, X) 3 (tk ch n p).2.1 :=
  fun s0 Q hQ s hs => Exp.go0 (mP0' hs).2.2.1.1 (MP_starts hst (mP0' hs) hl hc (fun z => absurd (h3.symm.trans z) (by decide)) (fun _ z => absurd z (by omega)) (fun _ _ => st80_91 hst (mP0' hs) hl hc h3 hv (fun _ s' hs' h66 => ⟨_, rfl, hs'.fin h66 (by omega) hQ⟩) (fun z => absurd z (by omega)) (fun z => absurd z (by omega))))
/-- what can't begin an operand -/
theorem XB_start (hst : l.stackTraces = false) (h2 : ¬ (tk ch n p).1 = 2) (hah : ¬ ((tk ch n p).1 = 3 ∧ ((tk ch n p).2.2.1 = 45 ∨ (tk ch n p).2.2.1 = 33) ∧ ¬ topk X = 2)) (h40 : ¬ ((tk ch n p).1 = 3 ∧ (tk ch n p).2.2.1 = 40)) (h91 : ¬ ((tk ch n p).1 = 3 ∧ (tk ch n p).2.2.1 = 91)) (hw : (tk ch n p).1 = 1 → kw (tk ch n p) < 11) (hl : X.length ≤ 74) (hc : c < 3900) : XB l E w d al ch n hf s0 (0, 0) ((p, o), vs, O, c, B, X) (wk (tk ch n p)) (tk ch n p).2.1 := by
  intro s0 Q hQ s hs
  have h := mP0' hs
  have ht := h.1.tk h.2.1.2
  have h14 : (tk ch n p).1 ≤ 4 := ht.1.1
  have wr : EvM l E w (d + 8) MX10_wrong [.ref w.1] s (fun r s5 => r = none ∧ ∃ v : Int32, some (Value.int 0) = some (.int v) ∧ Exp l E w d al v s5 Q) :=
    M_wrong hst h.2.1.1 ht.1.1 h.2.2.1.1 ⟨rfl, 0, rfl, (h.flt (wk_le _).1 (wk_le _).2).fin (wk_pos _) (by omega) hQ⟩
  refine Exp.go0 h.2.2.1.1 (MP_starts hst h hl hc (fun z => absurd z h2) (fun z1 z2 z3 => absurd ⟨z1, z2, z3⟩ hah) (fun _ _ => ?_))
  refine vX10_starts_80 (M_isSign hst (c := 40) h.2.1.1 ht.1.1 ht.2.1 (by decide) ⟨_, rfl, pk_b (fun _ => ?_) (fun z => absurd z h40)⟩)
  refine M_isSign hst (c := 91) h.2.1.1 ht.1.1 ht.2.1 (by decide) ⟨_, rfl, pk_b (fun _ => ?_) (fun z => absurd z h91)⟩
  refine bn_eq (tk ch n p).1 1 (fun z => bn_eq (tk ch n p).1 1 (fun _ => wr) (fun y => absurd y z) h.2.1.1.1 rfl) (fun z => ?_) h.2.1.1.1 rfl
  have hk := hw z
  refine kwI_ge11 (fun y => absurd y (by omega)) (fun _ => kwI_ge (fun _ => bn_eq (tk ch n p).1 1 (fun y => absurd z y) (fun _ => kwI_ge (fun _ => wr) (fun y => absurd y (by omega))) h.2.1.1.1 rfl) (fun y => absurd y (by omega)))
/-- a name that is no call -/
theorem name_core (hst : l.stackTraces = false) (h : mX ch n hf s0 ((p, o), vs, O, c, B, X) s) (h1 : (tk ch n p).1 = 1) (hw : kw (tk ch n p) = 41) (hb : ¬ bt ch n (sk ch n (tk ch n p).2.2.2) = 40) (hl : X.length ≤ 74) (hc : c < 3900)
    (hsh : 1 ≤ (tk ch n p).2.2.1 → (tk ch n p).2.2.1 ≤ 8 → ∀ s', mX ch n hf s0 (((tk ch n p).2.2.2, o), vs, oup O (4000 * (1 - hf) + c) (3, (tk ch n p).2.2.1 - 1, 0, 0, nI (tk ch n p).2.1), c + 1, B, X) s' → Exp l E w d al 1 s' Q)
    (hfull : ¬ (1 ≤ (tk ch n p).2.2.1 ∧ (tk ch n p).2.2.1 ≤ 8) → nix vs (tk ch n p).2.2.1 = 14 → ∀ s', mFt ch n hf s0 (c + 1) 3 (tk ch n p).2.1 s' → ¬ s'.1 66 ≤ 0 → Exp l E w d al 1 s' Q)
    (hok : ¬ (1 ≤ (tk ch n p).2.2.1 ∧ (tk ch n p).2.2.1 ≤ 8) → nix vs (tk ch n p).2.2.1 < 14 → ∀ s', mX ch n hf s0 (((tk ch n p).2.2.2, o), nup vs (tk ch n p).2.2.1, oup O (4000 * (1 - hf) + c) (3, 8 + nix vs (tk ch n p).2.2.1, 0, 0, nI (tk ch n p).2.1), c + 1, B, X) s' → Exp l E w d al 1 s' Q) : Exp l E w d al 0 s Q := by
  have ht := h.1.tk h.2.1.2
  refine Exp.go0 h.2.2.1.1 (MP_starts hst h hl hc (fun z => absurd (h1.symm.trans z) (by decide)) (fun z => absurd (h1.symm.trans z) (by decide)) (fun _ _ => ?_))
  have nm : EvM l E w (d + 8) MX10_name [.ref w.1] s (fun r s7 => ∃ v8 : Int32, r = some (.int v8) ∧ (EvM l E w (d + 8) MX10_order [.ref w.1, .int 3, .int v8, .int 0, .int (nI (tk ch n p).2.1)] s7 (fun r s9 => ∃ v10 : Int32, r = some (.int v10) ∧ ∃ v : Int32, some (Value.int 1) = some (.int v) ∧ Exp l E w d al v s9 Q))) := by
    refine MP_name hst h (by decide) (fun z => absurd ⟨h1, hw⟩ z) (fun _ _ z1 z2 s1 hs1 => ⟨_, rfl, ?_⟩) (fun _ _ z1 z2 s1 hs1 h66 => ⟨_, rfl, ?_⟩) (fun _ _ z1 z2 s1 hs1 => ⟨_, rfl, ?_⟩)
    · exact MP_order hst (od := (3, (tk ch n p).2.2.1 - 1, 0, 0, nI (tk ch n p).2.1)) hs1 (by omega) rfl rfl rfl rfl (Nat.ne_of_beq_eq_false rfl) (fun s' hs' _ => ⟨_, rfl, 1, rfl, hsh z1 z2 s' hs'⟩)
    · exact MP_orderF hst hs1 (by omega) (fun s' y hs' e66 _ => ⟨_, rfl, 1, rfl, hfull z1 z2 s' hs' (by rw [e66]; exact h66)⟩)
    · exact MP_order hst (od := (3, 8 + nix vs (tk ch n p).2.2.1, 0, 0, nI (tk ch n p).2.1)) hs1 (by omega) rfl rfl rfl rfl (Nat.ne_of_beq_eq_false rfl) (fun s' hs' _ => ⟨_, rfl, 1, rfl, hok z1 z2 s' hs'⟩)
  refine vX10_starts_80 (M_isSign hst (c := 40) h.2.1.1 ht.1.1 ht.2.1 (by decide) ⟨_, rfl, pk_b (fun _ => ?_) (fun z => absurd (h1.symm.trans z.1) (by decide))⟩)
  refine M_isSign hst (c := 91) h.2.1.1 ht.1.1 ht.2.1 (by decide) ⟨_, rfl, pk_b (fun _ => ?_) (fun z => absurd (h1.symm.trans z.1) (by decide))⟩
  have h14 : (tk ch n p).1 ≤ 4 := ht.1.1
  refine bn_eq (tk ch n p).1 1 (fun z => absurd h1 z) (fun z => ?_) h.2.1.1.1 rfl
  refine kwI_ge11 (fun _ y => absurd y (by omega)) (fun _ => kwI_ge (fun y => absurd y (by omega)) (fun _ => ?_))
  refine M_isBracket hst h.1.1 h.2.1.1.2.2.1 ht.1.2.2.2.2 ⟨_, rfl, pk_b (fun _ => ?_) (fun y => absurd y hb)⟩
  exact bn_eq (tk ch n p).1 1 (fun z => absurd h1 z) (fun _ => kwI_ge (fun y => absurd y (by omega)) (fun _ => nm)) h.2.1.1.1 rfl
/-- the number of a name, and the names then -/
def nmN (vs : List Nat) (v : Nat) : Nat := if 1 ≤ v ∧ v ≤ 8 then v - 1 else 8 + nix vs v
def nmV (vs : List Nat) (v : Nat) : List Nat := if 1 ≤ v ∧ v ≤ 8 then vs else nup vs v
theorem XF_name (hst : l.stackTraces = false) (h1 : (tk ch n p).1 = 1) (hw : kw (tk ch n p) = 41) (hb : ¬ bt ch n (sk ch n (tk ch n p).2.2.2) = 40) (hf : ¬ (¬ (1 ≤ (tk ch n p).2.2.1 ∧ (tk ch n p).2.2.1 ≤ 8) ∧ nix vs (tk ch n p).2.2.1 = 14)) (hvs : vs.length ≤ 14) (hl : X.length ≤ 74) (hc : c < 3900) {hf' : Nat} : XF l E w d al ch n hf' s0 (0, 0) ((p, o), vs, O, c, B, X) (1, 0) (((tk ch n p).2.2.2, o), nmV vs (tk ch n p).2.2.1, oup O (4000 * (1 - hf') + c) (3, nmN vs (tk ch n p).2.2.1, 0, 0, nI (tk ch n p).2.1), c + 1, B, X) := by
  intro s0 Q hQ s hs
  have hn := (nix_is vs (tk ch n p).2.2.1).1
  refine name_core hst (mP0' hs) h1 hw hb hl hc (fun z1 z2 s' hs' => hQ s' (mP1 ?_)) (fun z1 z2 => absurd ⟨z1, z2⟩ hf) (fun z1 z2 s' hs' => hQ s' (mP1 ?_))
  · unfold nmV nmN; rw [if_pos ⟨z1, z2⟩, if_pos ⟨z1, z2⟩]; exact hs'
  · unfold nmV nmN; rw [if_neg z1, if_neg z1]; exact hs'
theorem XB_name (hst : l.stackTraces = false) (h1 : (tk ch n p).1 = 1) (hw : kw (tk ch n p) = 41) (hb : ¬ bt ch n (sk ch n (tk ch n p).2.2.2) = 40) (hf1 : ¬ (1 ≤ (tk ch n p).2.2.1 ∧ (tk ch n p).2.2.1 ≤ 8)) (hf2 : nix vs (tk ch n p).2.2.1 = 14) (hl : X.length ≤ 74) (hc : c < 3900) : XB l E w d al ch n hf s0 (0, 0) ((p, o), vs, O, c, B, X) 3 (tk ch n p).2.1 :=
  fun s0 Q hQ s hs => name_core hst (mP0' hs) h1 hw hb hl hc (fun z1 z2 => absurd ⟨z1, z2⟩ hf1) (fun _ _ s' hs' h66 => hs'.fin h66 (by omega) hQ) (fun _ z2 => absurd z2 (by omega))
end XE6
