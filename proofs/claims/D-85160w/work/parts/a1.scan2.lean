/-! THE COMPONENT'S SCANNER: isCalled, name, take -/
def cfP (s s' : CS) : Prop := (∀ j, j ∉ [14, 15, 19, 20, 21, 22, 23] → s'.1 j = s.1 j) ∧ s'.2 = s.2
theorem cfP.rf (s : CS) : cfP s s := ⟨fun _ _ => rfl, rfl⟩
theorem cfP.trans {s s' s'' : CS} (h : cfP s s') (k : cfP s' s'') : cfP s s'' := ⟨fun j hj => (k.1 j hj).trans (h.1 j hj), k.2.trans h.2⟩
theorem cfP.ofK {s s' : CS} (h : cfK s s') : cfP s s' := ⟨fun j hj => h.1 j (fun z => hj (by revert z; simp only [List.mem_cons, List.not_mem_nil, or_false]; omega)), h.2⟩
theorem cfP.uI (s : CS) (j : Nat) (v : Int32) (hj : j ∈ [14, 15, 19, 20, 21, 22, 23] := by decide) : cfP s (uI s j v) := ⟨fun i hi => uI_ne s v (fun e => hi (e ▸ hj)), rfl⟩
theorem cTx.frP {s s' : CS} {ch : Nat → Nat} {n : Nat} (h : cTx s ch n) (k : cfP s s') : cTx s' ch n := ⟨(k.1 18 (by decide)).trans h.1, h.2.1, fun i hi => by rw [k.2]; exact h.2.2.1 i hi, h.2.2.2⟩
/-- a fault is told -/
def cFl (s s' : CS) (k p : Nat) : Prop := cfP s s' ∧ s'.1 14 = nI k ∧ s'.1 15 = nI p
/-- the scanner at a token -/
def cSc (ch : Nat → Nat) (n p o : Nat) (s : CS) : Prop := cTx s ch n ∧ (cTk s (tk ch n p) ∧ p ≤ n ∧ ¬ (tk ch n p).1 = 4) ∧ s.1 23 = nI o ∧ o ≤ 10 ∧ (s.1 14 = 0 ∧ s.1 15 = -1)
theorem cSc.tk {ch : Nat → Nat} {n p o : Nat} {s : CS} (h : cSc ch n p o s) : tkW n p (tk ch n p) := tk_ok h.1.2.2.2 h.2.1.2.1
section SC2
variable {l : Launch} {E : EN} {w : CO} {d : Nat} {s : CS} {f : RH} {Q : KO → CS → RH → Prop} {ch : Nat → Nat} {n p o : Nat}
theorem C_isCalled (hst : l.stackTraces = false) {b : Nat} (hx : cTx s ch n) (h19 : s.1 19 = nI b) (hb : b ≤ n) (hQ : Q (.inl (some (.int (bI (decide (bt ch n (sk ch n b) = 40)))))) s f) : EvC l E w (d + 1) MX2_isCalled [.ref (w.1 2)] s f Q := by
  have hn := hx.2.1
  refine eX2_isCalled hst (fun y1 ey1 => ?_)
  rw [h19] at ey1
  subst ey1
  have hlk : ∀ i, i ≤ n → i < 2 ^ 31 := fun i hi => by omega
  have fin : ∀ i, i ≤ n → sk ch n b = i → EvC l E w d MX2_look [.ref (w.1 2), .int (nI i)] s f (fun o s2 f3 => KP o (fun r => ∃ v4 : Int32, r = some (.int v4) ∧ ((¬ v4 = 40 → Q (.inl (some (.int 0))) s2 f3) ∧ (v4 = 40 → Q (.inl (some (.int 1))) s2 f3))) (fun k => Q (.inr k) s2 f3)) := by
    intro i hi he
    have hlt := bt_lt hx.2.2.2 n i
    refine C_look hst hx (hlk i hi) ⟨_, rfl, ?_⟩
    have e := sb_eq (c := bt ch n i) (k := 40) hlt (by decide)
    rw [he] at hQ
    refine ⟨fun z => ?_, fun z => ?_⟩
    · rw [decide_eq_false (fun y => z (e.mpr y))] at hQ; exact hQ
    · rw [decide_eq_true (e.mp z)] at hQ; exact hQ
  have main : ∀ m i, n + 1 - i ≤ m → i ≤ n → sk ch n i = sk ch n b → ExC l E w (d + 1) MX2_isCalled 5 [some (.ref (w.1 2)), some (.int (nI i))] [] s f Q := by
    intro m
    induction m with
    | zero => intro i hm hi; omega
    | succ m ih =>
      intro i hm hi he
      have hlt := bt_lt hx.2.2.2 n i
      refine vX2_isCalled_5 ?_
      rw [hx.1]
      refine pk_le n i (fun c => fin i hi (by rw [← he, sk_end c])) (fun c => ?_) rfl rfl
      have ebt : bt ch n i = ch i := if_pos c
      have e32 := sb_eq (c := bt ch n i) (k := 32) hlt (by decide)
      have e10 := sb_eq (c := bt ch n i) (k := 10) hlt (by decide)
      have e35 := sb_eq (c := bt ch n i) (k := 35) hlt (by decide)
      have hun := sk_un (ch := ch) c
      have L := fun {Q' : KO → CS → RH → Prop} => C_look (l := l) (E := E) (w := w) (d := d) (f := f) (Q := Q') hst hx (hlk i hi)
      have blank : (ch i = 32 ∨ ch i = 10) → EvC l E w d MX2_look [.ref (w.1 2), .int (nI i)] s f (fun o s8 f9 => KP o (fun r => ∃ v10 : Int32, r = some (.int v10) ∧ ((¬ v10 = 35 → ExC l E w (d + 1) MX2_isCalled 5 [some (.ref (w.1 2)), some (.int (nI i + 1))] [] s8 f9 Q) ∧ (v10 = 35 → ExC l E w (d + 1) MX2_isCalled 53 [some (.ref (w.1 2)), some (.int (nI i))] [] s8 f9 Q))) (fun k => Q (.inr k) s8 f9)) := by
        intro hc
        refine L ⟨_, rfl, fun _ => ?_, fun z => absurd (e35.mp z) (by rw [ebt]; omega)⟩
        rw [← nI_succ]
        rw [if_neg (by omega), if_pos hc] at hun
        exact ih (i + 1) (by omega) (by omega) (by rw [← hun]; exact he)
      refine L ⟨_, rfl, fun z => blank (by rw [← ebt]; exact Or.inl (e32.mp z)), fun z32 => L ⟨_, rfl, fun z => blank (by rw [← ebt]; exact Or.inr (e10.mp z)), fun z10 => L ⟨_, rfl, fun z35 => fin i hi ?_, fun z35 => L ⟨_, rfl, fun z => absurd z35 z, fun _ => ?_⟩⟩⟩⟩
      · rw [if_neg (by rw [← ebt]; exact fun y => z35 (e35.mpr y)), if_neg (by rw [← ebt]; exact fun y => y.elim (fun y => z32 (e32.mpr y)) (fun y => z10 (e10.mpr y)))] at hun
        rw [← he, hun]
      · have h35 : ch i = 35 := by rw [← ebt]; exact e35.mp z35
        rw [if_pos h35] at hun
        have line : ∀ g j, n - j ≤ g → i ≤ j → j ≤ n → hs ch n i = hs ch n j → ExC l E w (d + 1) MX2_isCalled 53 [some (.ref (w.1 2)), some (.int (nI j))] [] s f Q := by
          intro g
          induction g with
          | zero =>
            intro j hg hij hj ej
            refine vX2_isCalled_53 ?_
            rw [hx.1]
            refine pk_le n j (fun c2 => ih j (by omega) hj ?_) (fun c2 => absurd c2 (by omega)) rfl rfl
            rw [← he, hun, ej, hs_end c2]
          | succ g ihg =>
            intro j hg hij hj ej
            refine vX2_isCalled_53 ?_
            rw [hx.1]
            have hltj := bt_lt hx.2.2.2 n j
            refine pk_le n j (fun c2 => ih j (by omega) hj ?_) (fun c2 => C_look hst hx (hlk j hj) ⟨_, rfl, fun z => ?_, fun z => ?_⟩) rfl rfl
            · rw [← he, hun, ej, hs_end c2]
            · have ebj : bt ch n j = ch j := if_pos c2
              have h10 : ch j = 10 := by rw [← ebj]; exact (sb_eq hltj (by decide)).mp z
              have hne : ¬ j = i := fun y => by rw [y] at h10; omega
              exact ih j (by omega) hj (by rw [← he, hun, ej, hs_nl h10])
            · have ebj : bt ch n j = ch j := if_pos c2
              have h10 : ¬ ch j = 10 := by rw [← ebj]; exact fun y => z ((sb_eq hltj (by decide)).mpr y)
              rw [← nI_succ]
              exact ihg (j + 1) (by omega) (by omega) (by omega) (by rw [ej, hs_go c2 h10])
        exact line _ i (Nat.le_refl _) (Nat.le_refl _) hi rfl
  exact main _ b (Nat.le_refl _) hb rfl
theorem C_name (hst : l.stackTraces = false) (hx : cTx s ch n) (hk : cTk s (tk ch n p)) (hp : p ≤ n) (h1 : (tk ch n p).1 = 1) (hQ : Q (.inl (some (.long (lN (cv (tk ch n p).2.2.1))))) s f) : EvC l E w d MX2_name [.ref (w.1 2)] s f Q := by
  have ht := tk_ok (ch := ch) hx.2.2.2 hp
  have hn := hx.2.1
  obtain ⟨w1, w2, w3, w4⟩ := tk_word h1
  obtain ⟨a, ea⟩ : ∃ a, a = (tk ch n p).2.1 := ⟨_, rfl⟩
  obtain ⟨b, eb⟩ : ∃ b, b = (tk ch n p).2.2.2 := ⟨_, rfl⟩
  have h21 : s.1 21 = nI a := by rw [ea]; exact hk.2.1
  have h19 : s.1 19 = nI b := by rw [eb]; exact hk.2.2.1
  have hab : a ≤ b := by rw [ea, eb]; exact ht.1.2.2.2.1
  have hbn : b ≤ n := by rw [eb]; exact ht.1.2.2.2.2
  rw [← ea, ← eb] at w1 w2 w3
  have ecv : cv (tk ch n p).2.2.1 = wN 32 ch a (b - a) := by
    rw [w1]; exact (wN_cv (b - a) 8 w2 w3).symm
  rw [ecv] at hQ
  refine eX2_name hst (fun y ey => ?_)
  rw [h21] at ey
  subst ey
  have main : ∀ m i, b - i ≤ m → a ≤ i → i ≤ b → ExC l E w d MX2_name 7 [some (.ref (w.1 2)), some (.long (lN (wN 32 ch a (i - a)))), none, some (.int (nI i))] [] s f Q := by
    intro m
    induction m with
    | zero =>
      intro i hm hi hib
      have ei : i = b := by omega
      subst ei
      refine vX2_name_7 ?_
      rw [h19]
      exact pk_le i i (fun _ => hQ) (fun z => absurd z (by omega)) rfl rfl
    | succ m ih =>
      intro i hm hi hib
      by_cases ei : i = b
      · exact ih i (by omega) hi hib
      refine vX2_name_7 ?_
      rw [h19]
      refine pk_le b i (fun z => absurd z (by omega)) (fun _ => ⟨inB_n (by omega), fun y ey => ?_⟩) rfl rfl
      rw [nI_clamp (by omega), hx.2.2.1 i (by omega)] at ey
      have hl := w3 (i - a) (by omega)
      rw [show a + (i - a) = i by omega] at hl
      have esb : sb (ch i) = nI (ch i) := if_pos (by omega)
      have hlt : wN 32 ch a (i - a) < 32 ^ (i - a) := wN_lt _ (fun j hj => by have := w3 j (by omega); omega)
      have hp8 : 32 ^ (i - a) ≤ 32 ^ 8 := Nat.pow_le_pow_right (by decide) (by omega)
      have hp8' : (32 : Nat) ^ 8 < 2 ^ 41 := by decide
      have e2 : y = lN (wN 32 ch a (i + 1 - a)) := by
        rw [ey, esb, nI_l64 (by omega), show i + 1 - a = (i - a) + 1 by omega]
        show _ = lN (32 * wN 32 ch a (i - a) + (ch (a + (i - a)) - 96))
        rw [show a + (i - a) = i by omega]
        have e3 : (32 : Int64) * lN (wN 32 ch a (i - a)) + lN (ch i) = lN (32 * wN 32 ch a (i - a) + ch i) := by
          show Int64.ofNat 32 * Int64.ofNat (wN 32 ch a (i - a)) + Int64.ofNat (ch i) = Int64.ofNat (32 * wN 32 ch a (i - a) + ch i)
          rw [← Int64.ofNat_mul, ← Int64.ofNat_add]
        rw [e3]
        refine lN_inj' (by omega) ?_
        rw [show (96 : Int64) = lN 96 from rfl, Int64.toInt_sub, lN_toI (by omega), lN_toI (by omega)]
        rw [Int.bmod_eq_of_le (by omega) (by omega)]
        omega
      subst e2
      rw [← nI_succ]
      exact ih (i + 1) (by omega) (by omega) (by omega)
  have := main _ a (Nat.le_refl _) (Nat.le_refl _) hab
  rw [Nat.sub_self] at this
  exact this
theorem C_nextS (hst : l.stackTraces = false) (h : cSc ch n p o s) (hstr : strR E f (eSC E 52) sgL) (hbad : ∀ s', (tk ch n (tk ch n p).2.2.2).1 = 4 → cFl s s' 1 (tk ch n (tk ch n p).2.2.2).2.1 → Q (.inr 1) s' f) (hQ : ∀ s', cfP s s' → cSc ch n (tk ch n p).2.2.2 o s' → Q (.inl none) s' f) : EvC l E w (d + 6) MX2_next [.ref (w.1 2)] s f Q := by
  have ht := h.tk
  refine T_next hst h.1 hstr h.2.1.1.2.2.1 ht.1.2.2.2.2 (fun s' z hF => hbad s' z ?_) (fun s' z hf hk => hQ s' (cfP.ofK hf) ⟨h.1.fr hf, ⟨hk, ht.1.2.2.2.2, z⟩, (hf.1 23 (by decide)).trans h.2.2.1, h.2.2.2.1, (hf.1 14 (by decide)).trans h.2.2.2.2.1, (hf.1 15 (by decide)).trans h.2.2.2.2.2⟩)
  obtain ⟨s1, g1, rfl⟩ := hF
  exact ⟨(cfP.ofK g1).trans ((cfP.uI _ 14 _).trans (cfP.uI _ 15 _)), rfl, rfl⟩
theorem C_takeS (hst : l.stackTraces = false) {c : Nat} (h : cSc ch n p o s) (hstr : strR E f (eSC E 52) sgL) (hc : c < 128) (hcl : c = 41 ∨ c = 93 ∨ c = 125 → 1 ≤ o)
    (hno : ¬ ((tk ch n p).1 = 3 ∧ (tk ch n p).2.2.1 = c) → ∀ s', cFl s s' 2 (tk ch n p).2.1 → Q (.inr 1) s' f)
    (hdp : (tk ch n p).1 = 3 → (tk ch n p).2.2.1 = c → (c = 40 ∨ c = 91 ∨ c = 123) → o = 10 → ∀ s', cFl s s' 3 (tk ch n p).2.1 → Q (.inr 1) s' f)
    (hbad : (tk ch n p).1 = 3 → (tk ch n p).2.2.1 = c → ¬ ((c = 40 ∨ c = 91 ∨ c = 123) ∧ o = 10) → ∀ s', (tk ch n (tk ch n p).2.2.2).1 = 4 → cFl s s' 1 (tk ch n (tk ch n p).2.2.2).2.1 → Q (.inr 1) s' f)
    (hok : (tk ch n p).1 = 3 → (tk ch n p).2.2.1 = c → ¬ ((c = 40 ∨ c = 91 ∨ c = 123) ∧ o = 10) → ∀ s', cfP s s' → cSc ch n (tk ch n p).2.2.2 (if c = 40 ∨ c = 91 ∨ c = 123 then o + 1 else if c = 41 ∨ c = 93 ∨ c = 125 then o - 1 else o) s' → Q (.inl none) s' f) : EvC l E w (d + 7) MX2_take [.ref (w.1 2), .int (nI c)] s f Q := by
  have ht := h.tk
  have h23 := h.2.2.1
  have ho := h.2.2.2.1
  have setO : ∀ o', o' ≤ 10 → cSc ch n p o' (uI s 23 (nI o')) := fun o' ho' => ⟨h.1.frP (cfP.uI _ 23 _), h.2.1, rfl, ho', h.2.2.2.2⟩
  refine eX2_take hst (C_is hst h.2.1.1 ht.1.1 ht.2.2.2.1 (by omega) ⟨_, rfl, bn_b (fun z => ?_) (fun z => ?_)⟩)
  · exact eX2_wrong hst ⟨rfl, hno z _ ⟨(cfP.uI _ 14 _).trans (cfP.uI _ 15 _), rfl, h.2.1.1.2.1⟩⟩
  · replace hdp := hdp z.1 z.2
    replace hbad := hbad z.1 z.2
    replace hok := hok z.1 z.2
    rw [h23, show (nI o + 1 : Int32) = nI (o + 1) from (nI_succ o).symm]
    have opn : (c = 40 ∨ c = 91 ∨ c = 123) → ExC l E w (d + 7) MX2_take 46 [some (.ref (w.1 2)), some (.int (nI c))] [] (uI s 23 (nI (o + 1))) f Q := by
      intro hc3
      rw [if_pos hc3] at hok
      refine vX2_take_46 (pk_eq c 41 (fun y => absurd y (by omega)) (fun _ => pk_eq c 93 (fun y => absurd y (by omega)) (fun _ => bn_eq c 125 (fun _ => ?_) (fun y => absurd y (by omega)) rfl rfl) rfl rfl) rfl rfl)
      refine pk_le (o + 1) 10 (fun y => ?_) (fun y => ?_) rfl rfl
      · refine C_nextS hst (setO (o + 1) y) hstr (fun s' y1 y2 => hbad (fun q => by omega) s' y1 ⟨(cfP.uI s 23 _).trans y2.1, y2.2⟩) (fun s' y1 y2 => ⟨rfl, hok (fun q => by omega) s' ((cfP.uI s 23 _).trans y1) y2⟩)
      · exact eX2_wrong hst ⟨rfl, hdp hc3 (by omega) _ ⟨(cfP.uI _ 23 _).trans ((cfP.uI _ 14 _).trans (cfP.uI _ 15 _)), rfl, h.2.1.1.2.1⟩⟩
    refine pk_eq c 40 (fun y => opn (by omega)) (fun n40 => pk_eq c 91 (fun y => opn (by omega)) (fun n91 => bn_eq c 123 (fun n123 => ?_) (fun y => opn (by omega)) rfl rfl) rfl rfl) rfl rfl
    rw [if_neg (by omega)] at hok
    by_cases hc3 : c = 41 ∨ c = 93 ∨ c = 125
    · rw [if_pos hc3] at hok
      have ho1 := hcl hc3
      have cls : (nI (o - 1) ≤ (10 : Int32) → (EvC l E w (d + 6) MX2_next [.ref (w.1 2)] (uI s 23 (nI (o - 1))) f (fun o s6 f7 => KP o (fun r => r = none ∧ Q (.inl none) s6 f7) (fun k => Q (.inr k) s6 f7)))) ∧ (¬ nI (o - 1) ≤ (10 : Int32) → (EvC l E w (d + 6) MX2_wrong [.ref (w.1 2), .int 3, .int (s.1 21)] (uI s 23 (nI (o - 1))) f (fun o s8 f9 => KP o (fun r => r = some (.ref (w.1 1)) ∧ Q (.inr 1) s8 f9) (fun k => Q (.inr k) s8 f9)))) := by
        refine pk_le (o - 1) 10 (fun y => ?_) (fun y => absurd y (by omega)) rfl rfl
        exact C_nextS hst (setO (o - 1) y) hstr (fun s' y1 y2 => hbad (fun q => by omega) s' y1 ⟨(cfP.uI s 23 _).trans y2.1, y2.2⟩) (fun s' y1 y2 => ⟨rfl, hok (fun q => by omega) s' ((cfP.uI s 23 _).trans y1) y2⟩)
      refine vX2_take_46 ?_
      rw [h23, nI_p1 (by omega)]
      exact pk_eq c 41 (fun _ => cls) (fun c1 => pk_eq c 93 (fun _ => cls) (fun c2 => bn_eq c 125 (fun c3 => absurd hc3 (by omega)) (fun _ => cls) rfl rfl) rfl rfl) rfl rfl
    · rw [if_neg hc3] at hok
      refine vX2_take_46 ?_
      rw [h23]
      refine pk_eq c 41 (fun y => absurd y (by omega)) (fun c1 => pk_eq c 93 (fun y => absurd y (by omega)) (fun c2 => bn_eq c 125 (fun c3 => pk_le o 10 (fun y => ?_) (fun y => absurd y (by omega)) rfl rfl) (fun y => absurd y (by omega)) rfl rfl) rfl rfl) rfl rfl
      exact C_nextS hst h hstr (fun s' y1 y2 => hbad (fun q => by omega) s' y1 y2) (fun s' y1 y2 => ⟨rfl, hok (fun q => by omega) s' y1 y2⟩)
end SC2
