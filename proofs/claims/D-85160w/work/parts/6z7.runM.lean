/-! THE MODEL: a run's state -/
def mPs (s : MS) (b : Nat) : List Th → Prop
  | [] => True
  | t :: r => rmV (s.2.2.1 104) b (s.2.2.1 106 r.length) (s.2.2.1 107 r.length) t ∧ mPs s b r
def mFr (s : MS) (b i : Nat) (q : Fm) : Prop := s.2.2.1 131 i = nI q.2.1 ∧ s.2.2.1 133 i = nI q.2.2.2 ∧ (¬ i = 0 → s.2.2.1 132 i = nI q.2.2.1) ∧ ∀ v, v < 14 → mVar (s.2.2.1 104) b (s.2.2.1 134 (14 * i + v)) (s.2.2.1 135 (14 * i + v)) (q.1 v)
def mFrs (s : MS) (b : Nat) : List Fm → Prop
  | [] => True
  | q :: r => mFr s b r.length q ∧ mFrs s b r
def mWt (h : Nat → Int32) (b : Nat) (v : Int32) : Option Th → Prop
  | none => v = -1
  | some t => ZW t ∧ ∃ p, v = nI p ∧ rmT h b true t p 0
def mWy (s : MS) (b i : Nat) (q : Wy) : Prop := s.2.2.1 137 i = nI q.1 ∧ s.2.2.1 139 i = nI q.2.2.2.1 ∧ s.2.2.1 142 i = nI q.2.2.2.2.2.2.1 ∧ q.1 < 5 ∧ (q.1 = 2 → s.2.2.1 138 i = nI q.2.2.1 ∧ s.2.2.1 140 i = q.2.2.2.2.2.2.2 ∧ s.2.2.1 141 i = nI q.2.2.2.2.2.1) ∧ (¬ q.1 = 2 → mWt (s.2.2.1 104) b (s.2.2.1 138 i) q.2.1 ∧ s.2.2.1 140 i = nI q.2.2.2.2.1 ∧ (¬ q.1 = 1 → s.2.2.1 141 i = nI q.2.2.2.2.2.1))
def mWys (s : MS) (b : Nat) : List Wy → Prop
  | [] => True
  | q :: r => mWy s b r.length q ∧ mWys s b r
abbrev JR : List Nat := [105, 108, 112, 113, 114, 117, 119, 120, 121, 122, 123, 124, 126, 127, 130, 136, 144]
abbrev JRA : List Nat := [104, 106, 107, 109, 110, 111, 128, 129, 131, 132, 133, 134, 135, 137, 138, 139, 140, 141, 142, 143]
/-- what a run leaves as it was -/
def mfR (s s' : MS) : Prop := (∀ j, j ∉ JR → s'.1 j = s.1 j) ∧ s'.2.1 = s.2.1 ∧ s'.2.2.2 = s.2.2.2 ∧ (∀ i, i < 154242 → s'.2.2.1 104 i = s.2.2.1 104 i) ∧ ∀ j, j ∉ JRA → s'.2.2.1 j = s.2.2.1 j
theorem mfR.rf (s : MS) : mfR s s := ⟨fun _ _ => rfl, rfl, rfl, fun _ _ => rfl, fun _ _ => rfl⟩
theorem mfR.trans {s s' s'' : MS} (h : mfR s s') (k : mfR s' s'') : mfR s s'' := ⟨fun j hj => (k.1 j hj).trans (h.1 j hj), k.2.1.trans h.2.1, k.2.2.1.trans h.2.2.1, fun i hi => (k.2.2.2.1 i hi).trans (h.2.2.2.1 i hi), fun j hj => (k.2.2.2.2 j hj).trans (h.2.2.2.2 j hj)⟩
theorem mfR.sI (s : MS) (j : Nat) (v : Int32) (hj : j ∈ JR := by decide) : mfR s (sI s j v) := ⟨fun i hi => sI_ne s v (fun e => hi (e ▸ hj)), rfl, rfl, fun _ _ => rfl, fun _ _ => rfl⟩
theorem mfR.sA (s : MS) {j k : Nat} (v : Int32) (hj : j ∈ JRA := by decide) (h4 : j ≠ 104 := by decide) : mfR s (sA s j k v) := ⟨fun _ _ => rfl, rfl, rfl, fun i hi => sA_ne s v (fun e => h4 e.1.symm), fun i hi => by
  funext z
  exact sA_ne s v (fun e => hi (by rw [e.1]; exact hj))⟩
theorem mfr.R {b n : Nat} {s s' : MS} {J : List Nat} (h : mfr J b n s s') (hb : 154242 ≤ b) (hJ : ∀ j ∈ J, j ∈ JR := by decide) : mfR s s' :=
  ⟨fun j hj => h.1 j (fun z => hj (hJ j z)), h.2.1, h.2.2.1, fun i hi => h.2.2.2.1 i (by omega), fun j hj => h.2.2.2.2.2 j (fun z => hj ((by decide : ∀ j ∈ [104, 106, 107, 109, 110, 111], j ∈ JRA) j z))⟩
theorem mfO.R {s s' : MS} (h : mfO s s') : mfR s s' :=
  ⟨fun j hj => h.1 j (fun z => hj ((by decide : ∀ j ∈ JO, j ∈ JR) j z)), h.2.1, h.2.2.1, fun i _ => by rw [h.2.2.2 104 (by decide)], fun j hj => h.2.2.2 j (fun z => hj ((by decide : ∀ j ∈ [109, 110, 111, 143], j ∈ JRA) j z))⟩
/-- all of a run's state but where it is, the pile, what is made, the trouble -/
def mBz (fuel : Nat) (s0 : MS) (b : Nat) (fr : List Fm) (wy : List Wy) (sh : Nat → Option Th) (st dp tk : Nat) (out : List Int32) (s : MS) : Prop :=
  mFrs s b fr ∧ s.1 130 = nI fr.length ∧ mWys s b wy ∧ s.1 136 = nI wy.length ∧ (∀ i, i < 8 → mVar (s.2.2.1 104) b (s.2.2.1 128 i) (s.2.2.1 129 i) (sh i)) ∧ (s.1 117 = nI st ∧ s.1 118 = nI fuel ∧ st ≤ fuel ∧ fuel ≤ 20000) ∧ (s.1 120 = nI dp ∧ dp ≤ 10 ∧ s.1 121 = nI tk) ∧ mOut s out ∧ mEm b s ∧ mfR s0 s
/-- an order's form in the model -/
def mOd (P : Pg) (s : MS) (pc : Nat) : Prop :=
  pc < 8000 ∧ s.2.2.1 80 pc = nI (P.1 pc).1 ∧ (P.1 pc).1 < 25 ∧ s.2.2.1 84 pc = (P.1 pc).2.2.2.2 ∧
  ((P.1 pc).1 = 2 → s.2.2.1 81 pc = (P.1 pc).2.2.2.1) ∧ ((P.1 pc).1 = 5 → s.2.2.1 81 pc = zsM (nI (P.1 pc).2.1) ∧ nI (P.1 pc).2.1 ∈ zSg) ∧ ((P.1 pc).1 = 4 → (P.1 pc).2.1 = 33 ∨ (P.1 pc).2.1 = 45) ∧
  ((P.1 pc).1 ∈ [3, 4, 6, 8, 9, 10, 12, 13, 14, 15, 18, 23, 24] → s.2.2.1 81 pc = nI (P.1 pc).2.1 ∧ (P.1 pc).2.1 < 8000) ∧ ((P.1 pc).1 ∈ [3, 12, 13] → (P.1 pc).2.1 < 22) ∧
  ((P.1 pc).1 ∈ [8, 9, 11, 18, 23] → s.2.2.1 82 pc = nI (P.1 pc).2.2.1 ∧ (P.1 pc).2.2.1 < 8000) ∧ ((P.1 pc).1 ∈ [18, 23] → (P.1 pc).2.2.1 < 22) ∧
  ((P.1 pc).1 = 13 → s.2.2.1 83 pc = (P.1 pc).2.2.2.1 ∧ s.2.2.1 82 pc = (if (P.1 pc).2.2.1 = 0 then -1 else nI ((P.1 pc).2.2.1 - 1)) ∧ (P.1 pc).2.2.1 < 8000) ∧
  ((P.1 pc).1 = 8 → (P.1 pc).2.1 < 28 ∧ ((P.1 pc).2.1 = 5 → (P.1 pc).2.2.1 ≤ 6) ∧ (¬ (P.1 pc).2.1 = 5 → (P.1 pc).2.2.1 = if (P.1 pc).2.1 = 3 ∨ 19 ≤ (P.1 pc).2.1 then 2 else 1)) ∧
  ((P.1 pc).1 = 9 → (P.1 pc).2.1 < 24 ∧ s.2.2.1 77 (P.1 pc).2.1 = nI (P.2 (P.1 pc).2.1).2) ∧ ((P.1 pc).1 = 11 → (P.1 pc).2.2.1 < 24 ∧ s.2.2.1 77 (P.1 pc).2.2.1 = nI (P.2 (P.1 pc).2.2.1).2)
def mCode (P : Pg) (s : MS) : Prop := ∀ pc, ¬ (P.1 pc).1 = 0 → mOd P s pc
/-- no trouble -/
def mS (fuel : Nat) (s0 : MS) (pc : Nat) (pl : List Th) (fr : List Fm) (wy : List Wy) (sh : Nat → Option Th) (ct : Ct) (out : List Int32) (s : MS) : Prop :=
  ∃ b, mBz fuel s0 b fr wy sh ct.1 ct.2.2.1 ct.2.2.2 out s ∧ mPs s b pl ∧ s.1 105 = nI b ∧ s.1 108 = nI pl.length ∧ s.1 119 = nI ct.2.1 ∧ b ≤ 154250 + ct.2.1 ∧ s.1 123 = 0 ∧ s.1 124 = -1 ∧ (¬ fr = [] → s.1 126 = nI pc)
/-- a trouble -/
def mTr (fuel : Nat) (s0 : MS) (pl : List Th) (fr : List Fm) (wy : List Wy) (sh : Nat → Option Th) (ct : Ct) (out : List Int32) (tr : Nat × Int32 × Int32) (s : MS) : Prop :=
  ∃ b, mBz fuel s0 b fr wy sh ct.1 ct.2.2.1 ct.2.2.2 out s ∧ mPs s b pl ∧ s.1 105 = nI b ∧ s.1 119 = nI ct.2.1 ∧ b ≤ 154550 + ct.2.1 ∧ s.1 123 = nI tr.1 ∧ ¬ tr.1 = 0 ∧ tr.1 < 12 ∧ s.1 124 = tr.2.1 ∧ (tr.1 = 9 → s.1 122 = tr.2.2)
def mRz (fuel : Nat) (s0 : MS) : AS → MS → Prop
  | (pc, pl, fr, wy, sh, ct, out, tr), s => (tr = (0, -1, 0) ∧ mS fuel s0 pc pl fr wy sh ct out s) ∨ mTr fuel s0 pl fr wy sh ct out tr s
theorem mVar_mono {h h' : Nat → Int32} {b b' : Nat} (hb : b ≤ b') (hc : ∀ a, a < b → h' a = h a) {k v : Int32} {o : Option Th} (q : mVar h b k v o) : mVar h' b' k v o := by
  cases o with
  | none => exact q
  | some t => exact ⟨rmV_mono hb hc q.1, q.2⟩
theorem mWt_mono {h h' : Nat → Int32} {b b' : Nat} (hb : b ≤ b') (hc : ∀ a, a < b → h' a = h a) {v : Int32} {o : Option Th} (q : mWt h b v o) : mWt h' b' v o := by
  cases o with
  | none => exact q
  | some t =>
    obtain ⟨q1, p, q2, q3⟩ := q
    exact ⟨q1, p, q2, (rmT_mono hb hc t).1 p 0 q3⟩
theorem mPs.mono {s s' : MS} {b b' : Nat} (hb : b ≤ b') (hc : ∀ a, a < b → s'.2.2.1 104 a = s.2.2.1 104 a) : ∀ (pl : List Th), (∀ i, i < pl.length → s'.2.2.1 106 i = s.2.2.1 106 i ∧ s'.2.2.1 107 i = s.2.2.1 107 i) → mPs s b pl → mPs s' b' pl
  | [], _, _ => trivial
  | t :: r, h, q => by
    have h0 := h r.length (by show r.length < r.length + 1; omega)
    refine ⟨?_, mPs.mono hb hc r (fun i hi => h i (by show i < r.length + 1; omega)) q.2⟩
    rw [h0.1, h0.2]
    exact rmV_mono hb hc q.1
theorem mFrs.mono {s s' : MS} {b b' : Nat} (hb : b ≤ b') (hc : ∀ a, a < b → s'.2.2.1 104 a = s.2.2.1 104 a) : ∀ (fr : List Fm), (∀ j, j = 131 ∨ j = 132 ∨ j = 133 → ∀ i, i < fr.length → s'.2.2.1 j i = s.2.2.1 j i) → (∀ j, j = 134 ∨ j = 135 → ∀ i, i < 14 * fr.length → s'.2.2.1 j i = s.2.2.1 j i) → mFrs s b fr → mFrs s' b' fr
  | [], _, _, _ => trivial
  | q :: r, h, h', k => by
    have hl : (q :: r).length = r.length + 1 := rfl
    refine ⟨?_, mFrs.mono hb hc r (fun j hj i hi => h j hj i (by omega)) (fun j hj i hi => h' j hj i (by omega)) k.2⟩
    obtain ⟨k1, k2, k3, k4⟩ := k.1
    refine ⟨by rw [h 131 (by decide) _ (by omega)]; exact k1, by rw [h 133 (by decide) _ (by omega)]; exact k2, fun c => by rw [h 132 (by decide) _ (by omega)]; exact k3 c, fun v hv => ?_⟩
    rw [h' 134 (by decide) _ (by omega), h' 135 (by decide) _ (by omega)]
    exact mVar_mono hb hc (k4 v hv)
theorem mWys.mono {s s' : MS} {b b' : Nat} (hb : b ≤ b') (hc : ∀ a, a < b → s'.2.2.1 104 a = s.2.2.1 104 a) : ∀ (wy : List Wy), (∀ j, 137 ≤ j → j ≤ 142 → ∀ i, i < wy.length → s'.2.2.1 j i = s.2.2.1 j i) → mWys s b wy → mWys s' b' wy
  | [], _, _ => trivial
  | q :: r, h, k => by
    have hl : (q :: r).length = r.length + 1 := rfl
    refine ⟨?_, mWys.mono hb hc r (fun j hj hj' i hi => h j hj hj' i (by omega)) k.2⟩
    obtain ⟨k1, k2, k3, k4, k5, k6⟩ := k.1
    unfold mWy
    rw [h 137 (by decide) (by decide) _ (by omega), h 138 (by decide) (by decide) _ (by omega), h 139 (by decide) (by decide) _ (by omega), h 140 (by decide) (by decide) _ (by omega), h 141 (by decide) (by decide) _ (by omega), h 142 (by decide) (by decide) _ (by omega)]
    exact ⟨k1, k2, k3, k4, k5, fun c => ⟨mWt_mono hb hc (k6 c).1, (k6 c).2⟩⟩
theorem mFrs.drop {s : MS} {b : Nat} : ∀ (k : Nat) (fr : List Fm), mFrs s b fr → mFrs s b (fr.drop k)
  | 0, _, h => h
  | k + 1, [], _ => trivial
  | k + 1, _ :: r, h => mFrs.drop k r h.2
theorem mWys.drop {s : MS} {b : Nat} : ∀ (k : Nat) (wy : List Wy), mWys s b wy → mWys s b (wy.drop k)
  | 0, _, h => h
  | k + 1, [], _ => trivial
  | k + 1, _ :: r, h => mWys.drop k r h.2
theorem mPs.drop {s : MS} {b : Nat} : ∀ (k : Nat) (pl : List Th), mPs s b pl → mPs s b (pl.drop k)
  | 0, _, h => h
  | k + 1, [], _ => trivial
  | k + 1, _ :: r, h => mPs.drop k r h.2
/-- the values that an order takes -/
theorem mPs.at {s : MS} {b : Nat} : ∀ (pl : List Th) (i : Nat), mPs s b pl → i < pl.length → rmV (s.2.2.1 104) b (s.2.2.1 106 i) (s.2.2.1 107 i) (pl.getD (pl.length - 1 - i) (zI 0))
  | t :: r, i, h, hi => by
    have hl : (t :: r).length = r.length + 1 := rfl
    by_cases e : i = r.length
    · subst e
      rw [show (t :: r).length - 1 - r.length = 0 by omega]
      exact h.1
    · have := mPs.at r i h.2 (by omega)
      rw [show (t :: r).length - 1 - i = (r.length - 1 - i) + 1 by omega]
      exact this
theorem mPs.args {s : MS} {b : Nat} {args rest : List Th} (h : mPs s b (args.reverse ++ rest)) (i : Nat) (hi : i < args.length) : rmV (s.2.2.1 104) b (s.2.2.1 106 (rest.length + i)) (s.2.2.1 107 (rest.length + i)) (args.getD i (zI 0)) := by
  have := mPs.at _ (rest.length + i) h (by rw [List.length_append, List.length_reverse]; omega)
  rw [List.length_append, List.length_reverse, getD_app1 _ _ (by rw [List.length_reverse]; omega), getD_lt _ (by rw [List.length_reverse]; omega), List.getElem_reverse] at this
  rw [getD_lt _ hi]
  have e : args.length - 1 - (args.length + rest.length - 1 - (rest.length + i)) = i := by omega
  simp only [e] at this
  exact this
theorem mPs.tl {s : MS} {b : Nat} : ∀ (a pl : List Th), mPs s b (a ++ pl) → mPs s b pl
  | [], _, h => h
  | _ :: r, pl, h => mPs.tl r pl h.2
section MB
variable {fuel : Nat} {s0 s s' : MS} {b b' : Nat} {fr : List Fm} {wy : List Wy} {sh : Nat → Option Th} {st dp tk : Nat} {out : List Int32}
theorem mBz.mono (h : mBz fuel s0 b fr wy sh st dp tk out s) (hb : b ≤ b') (hc : ∀ a, a < b → s'.2.2.1 104 a = s.2.2.1 104 a) (hA : ∀ j, 128 ≤ j → j ≤ 143 → s'.2.2.1 j = s.2.2.1 j) (hI : ∀ j, j ∈ [117, 118, 120, 121, 130, 136, 144] → s'.1 j = s.1 j) (hf : mfR s s') : mBz fuel s0 b' fr wy sh st dp tk out s' := by
  obtain ⟨h1, h2, h3, h4, h5, h6, h7, h8, h9, h10⟩ := h
  refine ⟨mFrs.mono hb hc fr (fun j hj i _ => by rw [hA j (by omega) (by omega)]) (fun j hj i _ => by rw [hA j (by omega) (by omega)]) h1, by rw [hI 130 (by decide)]; exact h2, mWys.mono hb hc wy (fun j hj hj' i _ => by rw [hA j (by omega) (by omega)]) h3, by rw [hI 136 (by decide)]; exact h4, fun i hi => ?_, ?_, ?_, ?_, ?_, h10.trans hf⟩
  · rw [hA 128 (by decide) (by decide), hA 129 (by decide) (by decide)]
    exact mVar_mono hb hc (h5 i hi)
  · rw [hI 117 (by decide), hI 118 (by decide)]; exact h6
  · rw [hI 120 (by decide), hI 121 (by decide)]; exact h7
  · unfold mOut
    rw [hI 144 (by decide), hA 143 (by decide) (by decide)]; exact h8
  · have := h9.1
    exact ⟨by omega, by rw [hc _ (by omega)]; exact h9.2.1, by rw [hc _ (by omega)]; exact h9.2.2⟩
theorem mBz.em (h : mBz fuel s0 b fr wy sh st dp tk out s) : mEm b s := h.2.2.2.2.2.2.2.2.1
theorem mBz.op {n : Nat} (h : mBz fuel s0 b fr wy sh st dp tk out s) (hb : b ≤ b') (hf : mfr J1 b n s s') : mBz fuel s0 b' fr wy sh st dp tk out s' :=
  h.mono hb hf.2.2.2.1 (fun j hj hj' => hf.2.2.2.2.2 j (fun z => by have := (by decide : ∀ j ∈ [104, 106, 107, 109, 110, 111], j < 128) j z; omega)) (fun j hj => hf.1 j ((by decide : ∀ j ∈ [117, 118, 120, 121, 130, 136, 144], j ∉ J1) j hj)) (hf.R h.em.1)
theorem mPs.op {n : Nat} {pl : List Th} (h : mPs s b pl) (hb : b ≤ b') (hf : mfr J1 b n s s') (hn : pl.length ≤ n) : mPs s' b' pl := mPs.mono hb hf.2.2.2.1 pl (fun i hi => hf.2.2.2.2.1 i (by omega)) h
theorem mBz.si (h : mBz fuel s0 b fr wy sh st dp tk out s) (j : Nat) (v : Int32) (hj : j ∈ JR ∧ j ∉ [117, 118, 120, 121, 130, 136, 144] := by decide) : mBz fuel s0 b fr wy sh st dp tk out (sI s j v) :=
  h.mono (Nat.le_refl b) (fun _ _ => rfl) (fun _ _ _ => rfl) (fun i hi => sI_ne s v (fun e => hj.2 (e ▸ hi))) (mfR.sI s j v hj.1)
theorem mBz.pA (h : mBz fuel s0 b fr wy sh st dp tk out s) {j k : Nat} (v : Int32) (hj : j = 106 ∨ j = 107) : mBz fuel s0 b fr wy sh st dp tk out (sA s j k v) :=
  h.mono (Nat.le_refl b) (fun _ _ => sA_ne s v (fun e => by have := e.1; omega)) (fun i hi _ => by funext z; exact sA_ne s v (fun e => by have := e.1; omega)) (fun _ _ => rfl) (mfR.sA s v (by rcases hj with rfl | rfl <;> decide) (by omega))
theorem mBz.pu (h : mBz fuel s0 b fr wy sh st dp tk out s) (n : Nat) (k v : Int32) : mBz fuel s0 b fr wy sh st dp tk out (psh s n k v) := ((h.pA k (Or.inl rfl)).pA v (Or.inr rfl)).si 108 _
theorem mPs.pu {pl : List Th} {t : Th} {k v : Int32} (h : mPs s b pl) (ht : rmV (s.2.2.1 104) b k v t) : mPs (psh s pl.length k v) b (t :: pl) := by
  refine ⟨?_, mPs.mono (s := s) (s' := psh s pl.length k v) (Nat.le_refl b) (fun _ _ => rfl) pl (fun i hi => ?_) h⟩
  · rw [psh_k, psh_v, psh_h, if_pos rfl, if_pos rfl]; exact ht
  · rw [psh_k, psh_v, if_neg (by omega), if_neg (by omega)]; exact ⟨rfl, rfl⟩
theorem mFrs.si (h : mFrs s b fr) {j : Nat} {v : Int32} : mFrs (sI s j v) b fr := mFrs.mono (s := s) (s' := sI s j v) (Nat.le_refl b) (fun _ _ => rfl) fr (fun _ _ _ _ => rfl) (fun _ _ _ _ => rfl) h
theorem mWys.si (h : mWys s b wy) {j : Nat} {v : Int32} : mWys (sI s j v) b wy := mWys.mono (s := s) (s' := sI s j v) (Nat.le_refl b) (fun _ _ => rfl) wy (fun _ _ _ _ _ => rfl) h
theorem mPs.si {pl : List Th} (h : mPs s b pl) {j : Nat} {v : Int32} : mPs (sI s j v) b pl := mPs.mono (s := s) (s' := sI s j v) (Nat.le_refl b) (fun _ _ => rfl) pl (fun _ _ => ⟨rfl, rfl⟩) h
theorem mBz.step (h : mBz fuel s0 b fr wy sh st dp tk out s) (hs : ¬ st = fuel) : mBz fuel s0 b fr wy sh (st + 1) dp tk out (sI s 117 (nI (st + 1))) := by
  obtain ⟨h1, h2, h3, h4, h5, h6, h7, h8, h9, h10⟩ := h
  exact ⟨h1.si, h2, h3.si, h4, h5, ⟨rfl, h6.2.1, by omega, h6.2.2.2⟩, h7, h8, h9, h10.trans (mfR.sI s 117 _)⟩
/-- a value is put -/
theorem mBz.store {tg : Nat} {k v : Int32} {x : Th} (h : mBz fuel s0 b fr wy sh st dp tk out s) (hx : rmV (s.2.2.1 104) b k v x) (wx : ZW x) (h1 : 1 ≤ fr.length) (ht : tg < 22) : mBz fuel s0 b (aputF fr tg x) wy (aputS sh tg x) st dp tk out (mst s fr.length tg k v) := by
  obtain ⟨g1, g2, g3, g4, g5, g6, g7, g8, g9, g10⟩ := h
  unfold mst aputF aputS
  by_cases c : tg < 8
  · rw [if_pos c, if_pos c, if_pos c]
    have hn : ∀ j, j ≠ 128 → j ≠ 129 → ∀ i, (sA (sA s 128 tg k) 129 tg v).2.2.1 j i = s.2.2.1 j i := fun j a1 a2 i => (sA_ne _ v (fun e => a2 e.1)).trans (sA_ne s k (fun e => a1 e.1))
    refine ⟨mFrs.mono (Nat.le_refl b) (fun a _ => hn 104 (by decide) (by decide) a) fr (fun j hj i _ => hn j (by omega) (by omega) i) (fun j hj i _ => hn j (by omega) (by omega) i) g1, g2, mWys.mono (Nat.le_refl b) (fun a _ => hn 104 (by decide) (by decide) a) wy (fun j hj hj' i _ => hn j (by omega) (by omega) i) g3, g4, fun i hi => ?_, g6, g7, ⟨g8.1, fun i a1 a2 => by rw [hn 143 (by decide) (by decide)]; exact g8.2 i a1 a2⟩, ⟨g9.1, by rw [hn 104 (by decide) (by decide)]; exact g9.2.1, by rw [hn 104 (by decide) (by decide)]; exact g9.2.2⟩, (g10.trans (mfR.sA s k)).trans (mfR.sA _ v)⟩
    show mVar _ b (if 128 = 129 ∧ i = tg then v else if 128 = 128 ∧ i = tg then k else s.2.2.1 128 i) (if 129 = 129 ∧ i = tg then v else if 129 = 128 ∧ i = tg then k else s.2.2.1 129 i) (if i = tg then some x else sh i)
    by_cases e : i = tg
    · rw [if_neg (fun z => absurd z.1 (by decide)), if_pos ⟨rfl, e⟩, if_pos ⟨rfl, e⟩, if_pos e]
      exact ⟨hx, wx⟩
    · rw [if_neg (fun z => e z.2), if_neg (fun z => e z.2), if_neg (fun z => e z.2), if_neg (fun z => e z.2), if_neg e]
      exact g5 i hi
  · rw [if_neg c, if_neg c, if_neg c]
    match fr, h1, g1, g2 with
    | q :: r, h1, g1, g2 =>
      have hix : mIx (q :: r).length tg = 14 * r.length + (tg - 8) := by
        unfold mIx
        show 14 * (r.length + 1 - 1) + tg - 8 = _
        omega
      rw [hix]
      generalize hz : 14 * r.length + (tg - 8) = z
      have hn : ∀ j, j ≠ 134 → j ≠ 135 → ∀ i, (sA (sA s 134 z k) 135 z v).2.2.1 j i = s.2.2.1 j i := fun j a1 a2 i => (sA_ne _ v (fun e => a2 e.1)).trans (sA_ne s k (fun e => a1 e.1))
      have hm : ∀ j i, i ≠ z → (sA (sA s 134 z k) 135 z v).2.2.1 j i = s.2.2.1 j i := fun j i a1 => (sA_ne _ v (fun e => a1 e.2)).trans (sA_ne s k (fun e => a1 e.2))
      refine ⟨⟨?_, mFrs.mono (Nat.le_refl b) (fun a _ => hn 104 (by decide) (by decide) a) r (fun j hj i _ => hn j (by omega) (by omega) i) (fun j hj i hi => hm j i (by omega)) g1.2⟩, g2, mWys.mono (Nat.le_refl b) (fun a _ => hn 104 (by decide) (by decide) a) wy (fun j hj hj' i _ => hn j (by omega) (by omega) i) g3, g4, fun i hi => ?_, g6, g7, ⟨g8.1, fun i a1 a2 => by rw [hn 143 (by decide) (by decide)]; exact g8.2 i a1 a2⟩, ⟨g9.1, by rw [hn 104 (by decide) (by decide)]; exact g9.2.1, by rw [hn 104 (by decide) (by decide)]; exact g9.2.2⟩, (g10.trans (mfR.sA s k)).trans (mfR.sA _ v)⟩
      · obtain ⟨k1, k2, k3, k4⟩ := g1.1
        refine ⟨by rw [hn 131 (by decide) (by decide)]; exact k1, by rw [hn 133 (by decide) (by decide)]; exact k2, fun c => by rw [hn 132 (by decide) (by decide)]; exact k3 c, fun u hu => ?_⟩
        show mVar _ b _ _ (if u = tg - 8 then some x else q.1 u)
        by_cases e : u = tg - 8
        · rw [if_pos e]
          have e2 : 14 * r.length + u = z := by omega
          rw [e2]
          show mVar _ b (if 134 = 135 ∧ z = z then v else if 134 = 134 ∧ z = z then k else s.2.2.1 134 z) (if 135 = 135 ∧ z = z then v else if 135 = 134 ∧ z = z then k else s.2.2.1 135 z) (some x)
          rw [if_neg (fun z => absurd z.1 (by decide)), if_pos ⟨rfl, rfl⟩, if_pos ⟨rfl, rfl⟩]
          exact ⟨hx, wx⟩
        · rw [if_neg e, hm 134 _ (by omega), hm 135 _ (by omega)]
          exact k4 u hu
      · rw [hn 128 (by decide) (by decide), hn 129 (by decide) (by decide)]
        exact g5 i hi
theorem mPs.store {D tg : Nat} {k v : Int32} {pl : List Th} (h : mPs s b pl) : mPs (mst s D tg k v) b pl := by
  unfold mst
  split
  · exact mPs.mono (s := s) (s' := sA (sA s 128 tg k) 129 tg v) (Nat.le_refl b) (fun a _ => rfl) pl (fun i _ => ⟨rfl, rfl⟩) h
  · exact mPs.mono (s := s) (s' := sA (sA s 134 (mIx D tg) k) 135 (mIx D tg) v) (Nat.le_refl b) (fun a _ => rfl) pl (fun i _ => ⟨rfl, rfl⟩) h
theorem mst_1 (s : MS) (D tg : Nat) (k v : Int32) : (mst s D tg k v).1 = s.1 := by unfold mst; split <;> rfl
theorem aputF_len (fr : List Fm) (tg : Nat) (x : Th) : (aputF fr tg x).length = fr.length := by
  unfold aputF
  split
  · rfl
  · cases fr <;> rfl
theorem mBz.get {tg : Nat} (h : mBz fuel s0 b fr wy sh st dp tk out s) (h1 : 1 ≤ fr.length) (ht : tg < 22) : mVar (s.2.2.1 104) b (mgK s fr.length tg) (mgV s fr.length tg) (aget fr sh tg) := by
  unfold mgK mgV aget
  by_cases c : tg < 8
  · rw [if_pos c, if_pos c, if_pos c]
    exact h.2.2.2.2.1 tg c
  · rw [if_neg c, if_neg c, if_neg c]
    obtain ⟨g1, _⟩ := h
    match fr, h1, g1 with
    | q :: r, h1, g1 =>
      have hix : mIx (q :: r).length tg = 14 * r.length + (tg - 8) := by
        unfold mIx
        show 14 * (r.length + 1 - 1) + tg - 8 = _
        omega
      rw [hix]
      exact g1.1.2.2.2 (tg - 8) (by omega)
end MB
