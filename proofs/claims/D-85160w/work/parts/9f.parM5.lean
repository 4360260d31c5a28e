/-! THE MODEL'S PARSER: names, calls, what is done behind a fault -/
theorem lN_i32 {v : Nat} (h : v < 2 ^ 31) : (lN v).toInt32 = nI v := by rw [← nI_l64 h, lg_l2i_i2l]
/-- where a name stands among names -/
def nix : List Nat → Nat → Nat
  | [], _ => 0
  | x :: r, v => if x = v then 0 else nix r v + 1
def nup (vs : List Nat) (v : Nat) : List Nat := if nix vs v = vs.length then vs ++ [v] else vs
theorem nix_is : ∀ (vs : List Nat) (v : Nat), nix vs v ≤ vs.length ∧ (∀ j, j < nix vs v → ¬ vs.getD j 0 = v) ∧ (nix vs v < vs.length → vs.getD (nix vs v) 0 = v)
  | [], _ => ⟨Nat.le_refl _, fun _ h => absurd h (Nat.not_lt_zero _), fun h => absurd h (Nat.lt_irrefl _)⟩
  | x :: r, v => by
    have ih := nix_is r v
    by_cases e : x = v
    · have : nix (x :: r) v = 0 := if_pos e
      rw [this]
      exact ⟨Nat.zero_le _, fun _ h => absurd h (Nat.not_lt_zero _), fun _ => e⟩
    · have : nix (x :: r) v = nix r v + 1 := if_neg e
      rw [this]
      refine ⟨Nat.succ_le_succ ih.1, fun j hj => ?_, fun h => ih.2.2 (Nat.lt_of_succ_lt_succ h)⟩
      cases j with
      | zero => exact e
      | succ j => exact ih.2.1 j (by omega)
theorem nix_un {vs : List Nat} {v k : Nat} (h1 : k ≤ vs.length) (h2 : ∀ j, j < k → ¬ vs.getD j 0 = v) (h3 : k < vs.length → vs.getD k 0 = v) : k = nix vs v := by
  obtain ⟨g1, g2, g3⟩ := nix_is vs v
  by_cases a : k < nix vs v
  · exact absurd (h3 (by omega)) (g2 k a)
  · by_cases b : nix vs v < k
    · exact absurd (g3 (by omega)) (h2 _ b)
    · omega
theorem nup_len (vs : List Nat) (v : Nat) : vs.length ≤ (nup vs v).length ∧ (nup vs v).length ≤ vs.length + 1 ∧ nix vs v < (nup vs v).length := by
  have := (nix_is vs v).1
  unfold nup
  split
  · rw [List.length_append]; simp only [List.length_cons, List.length_nil]; omega
  · omega
section PM5
variable {l : Launch} {E : EN} {w : MO} {d : Nat} {s s0 s' : MS} {Q : Option Value → MS → Prop} {ch : Nat → Nat} {n hf p p' o o' c : Nat} {vs : List Nat} {O : Nat → Od} {B : List Tok} {X : List XE} {x : XE} {g : Nat}
theorem MP_isShelf (hst : l.stackTraces = false) {v : Nat} (hv : v < 2 ^ 50) (hQ : Q (some (.int (bI (decide (1 ≤ v ∧ v ≤ 8))))) s) : EvM l E w d MX10_isShelf [.long (lN v)] s Q := by
  have e1 : lg_cmp (lN v) 1 < 0 ↔ v < 1 := by rw [lg_cmp_lt, show (1 : Int64) = lN 1 from rfl, Int64.lt_iff_toInt_lt, lN_toI (by omega), lN_toI (by omega)]; omega
  have e2 : 0 < lg_cmp (lN v) 8 ↔ 8 < v := by rw [lg_cmp_gt, show (8 : Int64) = lN 8 from rfl, Int64.lt_iff_toInt_lt, lN_toI (by omega), lN_toI (by omega)]; omega
  refine eX10_isShelf hst ⟨fun z => ?_, fun z => ⟨fun y => ?_, fun y => ?_⟩⟩
  · rw [decide_eq_false (by have := e1.mp z; omega)] at hQ; exact hQ
  · rw [decide_eq_false (by have := e2.mp y; omega)] at hQ; exact hQ
  · rw [decide_eq_true (by have : ¬ v < 1 := fun q => z (e1.mpr q); have : ¬ 8 < v := fun q => y (e2.mpr q); omega)] at hQ; exact hQ
theorem MP_called (hst : l.stackTraces = false) {k nm m pl : Nat} (h : mXg g ch n hf s0 ((p, o), vs, O, c, B, X) s) (hB : B.length < 800) (hk : (∀ x ∈ B, x.1 < k) ∧ 4000 * (1 - hf) ≤ k ∧ k < 4000 * (1 - hf) + c) (hQ : ∀ s', mXg g ch n hf s0 ((p, o), vs, O, c, B ++ [(k, nm, m, pl)], X) s' → Q none s') : EvM l E w d MX10_called [.ref w.1, .int (nI k), .long (lN nm), .int (nI m), .int (nI pl)] s Q := by
  obtain ⟨h1, h2, h3, h4, h5, h6, h7⟩ := h
  have e86 : s.1 86 = nI B.length := h6.1
  refine eX10_called hst ?_
  rw [e86, nI_clamp (by omega)]
  refine ⟨inB_n hB, inB_n hB, inB_n hB, inB_n hB, hQ _ ⟨h1.fr ((mfX.sA _ _ 87 _ _ (by decide) (Or.inl (by decide))).trans ((mfX.sB _ _ 90 _ _).trans ((mfX.sA _ _ 89 _ _ (by decide) (Or.inl (by decide))).trans ((mfX.sA _ _ 88 _ _ (by decide) (Or.inl (by decide))).trans (mfX.sI _ _ 86 _))))), h2, h3, fun q => (h4 q).cg rfl (fun i _ => sB_ne (j := 90) (k := B.length) (i := 78) (n := i) (sA s 87 B.length (nI k)) (lN nm) (fun z => absurd z.1 (by decide : ¬ 78 = 90))), h5.cg rfl (fun j hj i _ _ => ?_), ⟨?_, fun i hi => ?_, ?_⟩, fun q => (h7 q).cg rfl (fun j hj i _ => ?_) (fun i _ => sB_ne (j := 90) (k := B.length) (i := 99) (n := i) (sA s 87 B.length (nI k)) (lN nm) (fun z => absurd z.1 (by decide : ¬ 99 = 90)))⟩⟩
  · have hn : ¬ j = 87 ∧ ¬ j = 89 ∧ ¬ j = 88 := by revert hj; simp only [List.mem_cons, List.not_mem_nil, or_false]; omega
    exact (sA_ne _ _ (fun z => hn.2.2 z.1)).trans ((sA_ne _ _ (fun z => hn.2.1 z.1)).trans (sA_ne s _ (fun z => hn.1 z.1)))
  · show nI B.length + 1 = nI (B ++ [(k, nm, m, pl)]).length
    rw [List.length_append]; exact (nI_succ _).symm
  · have hi' : i < B.length + 1 := by
      have : i < (B ++ [(k, nm, m, pl)]).length := hi
      rw [List.length_append] at this; exact this
    by_cases e : i = B.length
    · subst e
      have eg : (B ++ [(k, nm, m, pl)]).getD B.length (0, 0, 0, 0) = (k, nm, m, pl) := getD_last _ _ _
      show _ = nI ((B ++ [(k, nm, m, pl)]).getD B.length (0, 0, 0, 0)).1 ∧ _ = lN ((B ++ [(k, nm, m, pl)]).getD B.length (0, 0, 0, 0)).2.1 ∧ _ = nI ((B ++ [(k, nm, m, pl)]).getD B.length (0, 0, 0, 0)).2.2.1 ∧ _ = nI ((B ++ [(k, nm, m, pl)]).getD B.length (0, 0, 0, 0)).2.2.2
      rw [eg]
      refine ⟨?_, sB_at _ _ _ _, ?_, sA_at _ _ _ _⟩
      · exact (sA_ne _ _ (fun z => absurd z.1 (by decide))).trans ((sA_ne _ _ (fun z => absurd z.1 (by decide))).trans (sA_at s _ _ _))
      · exact (sA_ne _ _ (fun z => absurd z.1 (by decide))).trans (sA_at _ _ _ _)
    · have g := h6.2.1 i (by show i < B.length; omega)
      have eg : (B ++ [(k, nm, m, pl)]).getD i (0, 0, 0, 0) = B.getD i (0, 0, 0, 0) := getD_app1 _ _ (by omega)
      show _ = nI ((B ++ [(k, nm, m, pl)]).getD i (0, 0, 0, 0)).1 ∧ _ = lN ((B ++ [(k, nm, m, pl)]).getD i (0, 0, 0, 0)).2.1 ∧ _ = nI ((B ++ [(k, nm, m, pl)]).getD i (0, 0, 0, 0)).2.2.1 ∧ _ = nI ((B ++ [(k, nm, m, pl)]).getD i (0, 0, 0, 0)).2.2.2
      rw [eg]
      refine ⟨Eq.trans ?_ g.1, Eq.trans (sB_ne _ _ (fun z => e z.2)) g.2.1, Eq.trans ?_ g.2.2.1, Eq.trans ?_ g.2.2.2⟩
      · exact (sA_ne _ _ (fun z => e z.2)).trans ((sA_ne _ _ (fun z => e z.2)).trans (show (sA s 87 B.length (nI k)).2.2.1 87 i = s.2.2.1 87 i from sA_ne s _ (fun z => e z.2)))
      · exact (sA_ne _ _ (fun z => e z.2)).trans ((sA_ne _ _ (fun z => e z.2)).trans (show (sA s 87 B.length (nI k)).2.2.1 89 i = s.2.2.1 89 i from sA_ne s _ (fun z => e z.2)))
      · exact (sA_ne _ _ (fun z => e z.2)).trans ((sA_ne _ _ (fun z => e z.2)).trans (show (sA s 87 B.length (nI k)).2.2.1 88 i = s.2.2.1 88 i from sA_ne s _ (fun z => e z.2)))
  · have hb : bOk (4000 * (1 - hf)) c B := h6.2.2
    refine ⟨fun x hx => ?_, ?_⟩
    · rcases List.mem_append.mp hx with hx | hx
      · exact hb.1 x hx
      · rw [List.mem_singleton.mp hx]; exact hk.2
    · show ((B ++ [(k, nm, m, pl)]).map (fun x => x.1)).Pairwise (· < ·)
      rw [List.map_append, List.pairwise_append]
      refine ⟨hb.2, List.pairwise_singleton _ _, fun a ha b hb' => ?_⟩
      obtain ⟨x, hx, rfl⟩ := List.mem_map.mp ha
      obtain ⟨y, hy, rfl⟩ := List.mem_map.mp hb'
      rw [List.mem_singleton.mp hy]; exact hk.1 x hx
  · have hn : ¬ j = 87 ∧ ¬ j = 89 ∧ ¬ j = 88 := by revert hj; simp only [List.mem_cons, List.not_mem_nil, or_false]; omega
    exact (sA_ne _ _ (fun z => hn.2.2 z.1)).trans ((sA_ne _ _ (fun z => hn.2.1 z.1)).trans (sA_ne s _ (fun z => hn.1 z.1)))
theorem mXg.bo (h : mXg g ch n hf s0 ((p, o), vs, O, c, B, X) s) : bOk (4000 * (1 - hf)) c B := h.2.2.2.2.2.1.2.2
/-- one E more in what is open -/
theorem mX.bump (h : mX ch n hf s0 ((p, o), vs, O, c, B, x :: X) s) (hx : x.2.2.1 < 9999) : mX ch n hf s0 ((p, o), vs, O, c, B, (x.1, x.2.1, x.2.2.1 + 1, x.2.2.2) :: X) (sA s 97 X.length (s.2.2.1 97 X.length + 1)) := by
  obtain ⟨h1, h2, h3, h4, h5, h6, h7⟩ := h
  replace h7 : mWs s (x :: X) := h7 (Nat.le_refl _)
  have g : mXe s X.length x := h7.2.1
  refine ⟨h1.fr (mfX.sA _ _ 97 _ _ (by decide) (Or.inl (by decide))), h2, h3, fun q => (h4 q).cg rfl (fun _ _ => rfl), h5.cg rfl (fun j hj i _ _ => sA_ne s _ (fun z => by revert hj; rw [z.1]; decide)), h6.cg rfl (fun j hj i _ => sA_ne s _ (fun z => by revert hj; rw [z.1]; decide)) (fun _ _ => rfl), fun _ => ⟨h7.1, ?_, h7.2.2.cg (fun j hj k hk => sA_ne s _ (fun z => by have hk : k < X.length := hk; omega)) (fun _ _ => rfl)⟩⟩
  refine ⟨(sA_ne s _ (fun z => absurd z.1 (by decide))).trans g.1, fun z => (sA_ne s _ (fun z => absurd z.1 (by decide))).trans (g.2.1 z), (sA_at s _ _ _).trans ?_, (sA_ne s _ (fun z => absurd z.1 (by decide))).trans g.2.2.2.1, fun z => ⟨(g.2.2.2.2.1 z).1, (sA_ne s _ (fun z => absurd z.1 (by decide))).trans (g.2.2.2.2.1 z).2⟩, ⟨g.2.2.2.2.2.1.1, g.2.2.2.2.2.1.2.1, by show x.2.2.1 + 1 < 10000; omega⟩, g.2.2.2.2.2.2⟩
  rw [g.2.2.1]; exact (nI_succ _).symm
theorem mVs.up {v : Nat} (h : mVs s vs) (hv : v < 2 ^ 50) (hl : nix vs v < 14) : mVs (if nix vs v = vs.length then sI (sB s 78 (nix vs v) (lN v)) 79 (nI (vs.length + 1)) else sB s 78 (nix vs v) (lN v)) (nup vs v) := by
  obtain ⟨g1, g2, g3⟩ := nix_is vs v
  unfold nup
  split
  · rename_i e
    rw [e]
    have hlen : (vs ++ [v]).length = vs.length + 1 := by rw [List.length_append]; rfl
    refine ⟨by rw [hlen]; rfl, by rw [hlen]; omega, fun u hu => ?_, fun k hk => ?_⟩
    · rcases List.mem_append.mp hu with hu | hu
      · exact h.2.2.1 u hu
      · rw [List.mem_singleton.mp hu]; exact hv
    · rw [hlen] at hk
      by_cases ek : k = vs.length
      · subst ek
        rw [getD_last]; exact sB_at s _ _ _
      · rw [getD_app1 _ _ (by omega)]; exact (sB_ne s _ (fun z => ek z.2)).trans (h.2.2.2 k (by omega))
  · rename_i e
    refine ⟨h.1, h.2.1, h.2.2.1, fun k hk => ?_⟩
    by_cases ek : k = nix vs v
    · subst ek
      rw [g3 hk]; exact sB_at s _ _ _
    · exact (sB_ne s _ (fun z => ek z.2)).trans (h.2.2.2 k hk)
theorem MP_name (hst : l.stackTraces = false) (h : mXg g ch n hf s0 ((p, o), vs, O, c, B, X) s) (hg : 1 ≤ g)
    (hno : ¬ ((tk ch n p).1 = 1 ∧ kw (tk ch n p) = 41) → ∀ s', mFt ch n hf s0 c (wk (tk ch n p)) (tk ch n p).2.1 s' → ¬ s'.1 66 ≤ 0 → Q (some (.int 0)) s')
    (hsh : (tk ch n p).1 = 1 → kw (tk ch n p) = 41 → 1 ≤ (tk ch n p).2.2.1 → (tk ch n p).2.2.1 ≤ 8 → ∀ s', mXg g ch n hf s0 (((tk ch n p).2.2.2, o), vs, O, c, B, X) s' → Q (some (.int (nI ((tk ch n p).2.2.1 - 1)))) s')
    (hfull : (tk ch n p).1 = 1 → kw (tk ch n p) = 41 → ¬ (1 ≤ (tk ch n p).2.2.1 ∧ (tk ch n p).2.2.1 ≤ 8) → nix vs (tk ch n p).2.2.1 = 14 → ∀ s', mFt ch n hf s0 c 3 (tk ch n p).2.1 s' → ¬ s'.1 66 ≤ 0 → Q (some (.int 0)) s')
    (hok : (tk ch n p).1 = 1 → kw (tk ch n p) = 41 → ¬ (1 ≤ (tk ch n p).2.2.1 ∧ (tk ch n p).2.2.1 ≤ 8) → nix vs (tk ch n p).2.2.1 < 14 → ∀ s', mXg g ch n hf s0 (((tk ch n p).2.2.2, o), nup vs (tk ch n p).2.2.1, O, c, B, X) s' → Q (some (.int (nI (8 + nix vs (tk ch n p).2.2.1)))) s') : EvM l E w (d + 4) MX10_name [.ref w.1] s Q := by
  have ht := h.1.tk h.2.1.2
  have h66 : s.1 66 = 0 := h.2.2.1.1
  have hwk : ¬ nI (wk (tk ch n p)) ≤ 0 := by unfold wk; split <;> decide
  refine eX10_name hst ⟨fun _ => M_isName hst h.1.2.1 h.2.1.1 ht.1.1 ht.2.1 ⟨_, rfl, bn_b (fun z => ?_) (fun z => ?_)⟩, fun z => absurd (by rw [h66]; decide) z⟩
  · exact M_wrong hst h.2.1.1 ht.1.1 h66 ⟨rfl, hno z _ (h.flt (wk_le _).1 (wk_le _).2) hwk⟩
  have hno : True := trivial
  replace hsh := hsh z.1 z.2
  replace hfull := hfull z.1 z.2
  replace hok := hok z.1 z.2
  have h64 : s.2.1 64 = lN (tk ch n p).2.2.1 := h.2.1.1.2.2.2.1 (Or.inl z.1)
  obtain ⟨v, ev⟩ : ∃ v, v = (tk ch n p).2.2.1 := ⟨_, rfl⟩
  have hv : v < 2 ^ 50 := by rw [ev]; exact ht.2.1
  rw [← ev] at h64 hsh hfull hok
  have hbe := ht.1.2.2.2.2
  rw [h64]
  refine MP_isShelf hst hv ⟨_, rfl, pk_b (fun c1 => ?_) (fun c1 => ?_)⟩
  · replace hfull := hfull c1
    replace hok := hok c1
    obtain ⟨i1, i2, i3, i4, i5, i6, i7⟩ := h
    replace i4 : mVs s vs := i4 hg
    have i79 : s.1 79 = nI vs.length := i4.1
    have hlen : vs.length ≤ 14 := i4.2.1
    have nv : ∀ k, k < vs.length → vs.getD k 0 < 2 ^ 50 := fun k hk => i4.2.2.1 _ (getD_mem 0 hk)
    obtain ⟨g1, g2, g3⟩ := nix_is vs v
    have fin : nix vs v < 14 → ∀ s1, s1 = (if nix vs v = vs.length then sI (sB s 78 (nix vs v) (lN v)) 79 (nI (vs.length + 1)) else sB s 78 (nix vs v) (lN v)) → EvM l E w (d + 3) MX10_take [.ref w.1] s1 (fun r s' => r = none ∧ Q (some (.int (8 + nI (nix vs v)))) s') := by
      intro hlt s1 es
      have hX : mXg g ch n hf s0 ((p, o), nup vs v, O, c, B, X) s1 := by
        have hu := i4.up hv hlt
        rw [← es] at hu
        have fr : mfX (4000 * (1 - hf)) s s1 ∧ s1.1 62 = s.1 62 ∧ s1.1 63 = s.1 63 ∧ s1.1 65 = s.1 65 ∧ s1.1 66 = s.1 66 ∧ s1.1 68 = s.1 68 ∧ s1.1 85 = s.1 85 ∧ s1.1 86 = s.1 86 ∧ s1.1 101 = s.1 101 ∧ s1.2.1 = s.2.1 ∧ s1.2.2.1 = s.2.2.1 ∧ (∀ j k, ¬ j = 78 → s1.2.2.2 j k = s.2.2.2 j k) := by
          rw [es]
          split
          · exact ⟨(mfX.sB _ _ 78 _ _).trans (mfX.sI _ _ 79 _), rfl, rfl, rfl, rfl, rfl, rfl, rfl, rfl, rfl, rfl, fun j k hj => sB_ne s _ (fun z => hj z.1)⟩
          · exact ⟨mfX.sB _ _ 78 _ _, rfl, rfl, rfl, rfl, rfl, rfl, rfl, rfl, rfl, rfl, fun j k hj => sB_ne s _ (fun z => hj z.1)⟩
        obtain ⟨f1, f2, f3, f4, f5, f6, f7, f8, f9, f10, f11, f12⟩ := fr
        exact ⟨i1.fr f1, ⟨⟨f2.trans i2.1.1, f3.trans i2.1.2.1, f4.trans i2.1.2.2.1, fun z => by rw [f10]; exact i2.1.2.2.2.1 z, fun z => by rw [f10]; exact i2.1.2.2.2.2 z⟩, i2.2⟩, ⟨f5.trans i3.1, f6.trans i3.2.1, i3.2.2⟩, fun _ => hu, i5.cg f7 (fun _ _ _ _ _ => by rw [f11]), i6.cg f8 (fun _ _ _ _ => by rw [f11]) (fun k _ => f12 90 k (by decide)), fun q => (i7 q).cg f9 (fun _ _ _ _ => by rw [f11]) (fun k _ => f12 99 k (by decide))⟩
      refine MP_take hst hX.1.1 hX.2.1.1.2.2.1 hbe (fun s' a b => ⟨rfl, ?_⟩)
      rw [show (8 : Int32) + nI (nix vs v) = nI (8 + nix vs v) from nI_add 8 _]
      exact hok hlt s' (hX.tok a b hbe)
    have main : ∀ m k, nix vs v - k ≤ m → k ≤ nix vs v → ExM l E w (d + 4) MX10_name 48 [some (.ref w.1), some (.int (nI k))] [] s Q := by
      intro m
      induction m with
      | zero =>
        intro k hm hk
        have ek : k = nix vs v := by omega
        have e14 : ∀ A B : Prop, (¬ k = 14 → A) → (k = 14 → B) → (¬ nI k = 14 → A) ∧ (nI k = 14 → B) := fun A B f g => bn_eq k 14 f g rfl rfl
        have inner : (¬ nI k = 14 → (inB (nI k) 14 ∧ ((¬ nI k = (s.1 79) → (EvM l E w (d + 3) MX10_take [.ref w.1] (sB s 78 (nI k).toNatClampNeg (s.2.1 64)) (fun r s1 => r = none ∧ Q (some (.int (8 + nI k))) s1))) ∧ (nI k = (s.1 79) → (EvM l E w (d + 3) MX10_take [.ref w.1] (sI (sB s 78 (nI k).toNatClampNeg (s.2.1 64)) 79 ((s.1 79) + 1)) (fun r s2 => r = none ∧ Q (some (.int (8 + nI k))) s2)))))) ∧ (nI k = 14 → (EvM l E w (d + 3) MX10_breaks [.ref w.1, .int 3, .int (s.1 63)] s (fun r s3 => r = none ∧ Q (some (.int 0)) s3))) := by
          refine e14 _ _ (fun q => ⟨inB_n (by omega), ?_⟩) (fun q => ?_)
          · have hlt : nix vs v < 14 := by omega
            rw [nI_clamp (by omega), i79, h64, ek]
            refine bn_eq (nix vs v) vs.length (fun y => fin hlt _ (if_neg y).symm) (fun y => ?_) rfl rfl
            rw [← nI_succ]
            exact fin hlt _ (if_pos y).symm
          · rw [i2.1.2.1]
            refine M_breaks hst h66 ⟨rfl, hfull (by omega) _ ?_ (show ¬ (3 : Int32) ≤ 0 by decide)⟩
            exact ⟨i1.fr ((mfX.sI _ _ 66 3).trans (mfX.sI _ _ 67 _)), ⟨c, i5.1, Nat.le_refl _⟩, Or.inl ⟨by decide, by decide, rfl, rfl⟩⟩
        refine vX10_name_48 ?_
        refine pk_le vs.length k (fun _ => inner) (fun q => ⟨inB_n (by omega), ?_⟩) i79 rfl
        have hm2 : lg_cmp (s.2.2.2 78 (nI k).toNatClampNeg) (s.2.1 64) = 0 ↔ vs.getD k 0 = v := by
          rw [nI_clamp (by omega), i4.2.2.2 k q, h64]; exact lN_cmp (nv k q) hv
        exact ⟨fun _ => inner, fun y => absurd (hm2.mpr (by rw [ek]; exact g3 (by omega))) y⟩
      | succ m ih =>
        intro k hm hk
        by_cases ek : k = nix vs v
        · exact ih k (by omega) hk
        refine vX10_name_48 ?_
        refine pk_le vs.length k (fun y => absurd y (by omega)) (fun q => ⟨inB_n (by omega), ?_⟩) i79 rfl
        have hm2 : lg_cmp (s.2.2.2 78 (nI k).toNatClampNeg) (s.2.1 64) = 0 ↔ vs.getD k 0 = v := by
          rw [nI_clamp (by omega), i4.2.2.2 k q, h64]; exact lN_cmp (nv k q) hv
        refine ⟨fun y => absurd (hm2.mp y) (g2 k (by omega)), fun _ => ?_⟩
        rw [← nI_succ]
        exact ih (k + 1) (by omega) (by omega)
    exact main _ 0 (Nat.le_refl _) (Nat.zero_le _)
  · intro y ey
    rw [h64, lN_i32 (by omega), nI_p1 (by omega)] at ey
    subst ey
    exact MP_take hst h.1.1 h.2.1.1.2.2.1 hbe (fun s' a b => ⟨rfl, hsh c1.1 c1.2 s' (h.tok a b hbe)⟩)
end PM5
