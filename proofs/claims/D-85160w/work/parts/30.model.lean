/-! THE MODEL'S WORLD: one object, its ints and longs, its arrays that never change place -/
abbrev MS : Type := (Nat → Int32) × (Nat → Int64) × (Nat → Nat → Int32) × (Nat → Nat → Int64)
/-- the object's place, the places of its arrays by field -/
abbrev MO : Type := Nat × (Nat → Nat)
/-- its array fields: field, type of array, length -/
def mArrs : List (Nat × Nat × Nat) := [(57, 1, 41), (58, 0, 30), (59, 2, 1620), (73, 1, 24), (74, 0, 24), (75, 0, 24), (76, 0, 24), (77, 0, 24), (78, 1, 14), (80, 0, 8000), (81, 0, 8000), (82, 0, 8000), (83, 0, 8000), (84, 0, 8000), (87, 0, 800), (88, 0, 800), (89, 0, 800), (90, 1, 800), (91, 0, 12), (92, 0, 12), (93, 0, 12), (95, 0, 80), (96, 0, 80), (97, 0, 80), (98, 0, 80), (99, 1, 80), (100, 0, 80), (104, 0, 166300), (106, 0, 9000), (107, 0, 9000), (109, 0, 8), (110, 0, 8), (111, 0, 8), (115, 0, 700), (116, 0, 700), (128, 0, 8), (129, 0, 8), (131, 0, 10), (132, 0, 10), (133, 0, 10), (134, 0, 140), (135, 0, 140), (137, 0, 400), (138, 0, 400), (139, 0, 400), (140, 0, 400), (141, 0, 400), (142, 0, 400), (143, 2, 600)]
def mArr (j : Nat) : Option (Nat × Nat) := (mArrs.find? (fun q => q.1 == j)).map (fun q => q.2)
/-- 0 an int, 1 a long, 2 an array -/
def mkd (j : Nat) : Nat := if j = 64 ∨ j = 146 then 1 else if (mArr j).isSome then 2 else 0
/-- how long an array is -/
def mlen (j : Nat) : Nat := ((mArr j).map (fun q => q.2)).getD 0
def mF (w : MO) (s : MS) (j : Nat) : Value := if mkd j = 1 then .long (s.2.1 j) else if mkd j = 2 then .ref (w.2 j) else .int (s.1 j)
def mA (s : MS) (j t : Nat) : Nat → Value := fun i => if t = 1 then .long (s.2.2.2 j i) else .int (s.2.2.1 j i)
def sI (s : MS) (j : Nat) (v : Int32) : MS := (fun i => if i = j then v else s.1 i, s.2)
def sL (s : MS) (j : Nat) (v : Int64) : MS := (s.1, fun i => if i = j then v else s.2.1 i, s.2.2)
def sA (s : MS) (j k : Nat) (v : Int32) : MS := (s.1, s.2.1, fun i n => if i = j ∧ n = k then v else s.2.2.1 i n, s.2.2.2)
def sB (s : MS) (j k : Nat) (v : Int64) : MS := (s.1, s.2.1, s.2.2.1, fun i n => if i = j ∧ n = k then v else s.2.2.2 i n)
def MW (E : EN) (w : MO) (s : MS) (h : CH) : Prop :=
  ez E ≤ w.1 ∧ h.2.2 w.1 = some (.inl 10, 0, mF w s) ∧ (∀ q ∈ mArrs, ez E ≤ w.2 q.1 ∧ w.2 q.1 ≠ w.1 ∧ h.2.2 (w.2 q.1) = some (.inr q.2.1, q.2.2, mA s q.1 q.2.1)) ∧ ∀ p ∈ mArrs, ∀ q ∈ mArrs, w.2 p.1 = w.2 q.1 → p.1 = q.1
def FRm (w : MO) (h h' : CH) : Prop := h'.1 = h.1 ∧ h'.2.1 = h.2.1 ∧ ∀ a, a ≠ w.1 → (∀ q ∈ mArrs, a ≠ w.2 q.1) → h'.2.2 a = h.2.2 a
theorem FRm.rf (w : MO) (h : CH) : FRm w h h := ⟨rfl, rfl, fun _ _ _ => rfl⟩
theorem FRm.trans {w : MO} {a b c : CH} (h1 : FRm w a b) (h2 : FRm w b c) : FRm w a c := ⟨h2.1.trans h1.1, h2.2.1.trans h1.2.1, fun x hx hy => (h2.2.2 x hx hy).trans (h1.2.2 x hx hy)⟩
def PoM (E : EN) (w : MO) (h0 : CH) (Q : Option Value → MS → Prop) : Outcome → CH → Prop := fun out h' => ∃ r s', out = .returned r ∧ MW E w s' h' ∧ FRm w h0 h' ∧ Q r s'
/-- a point of a method of the model: it returns with Q -/
def ExM (l : Launch) (E : EN) (w : MO) (d : Nat) (M : MR) (pc : Nat) (lo : LO) (st : List Value) (s : MS) (Q : Option Value → MS → Prop) : Prop :=
  ∀ h0 h, MW E w s h → FRm w h0 h → Ex l E d M pc lo st h (PoM E w h0 Q)
/-- a method of the model, called: it returns with Q -/
def EvM (l : Launch) (E : EN) (w : MO) (d : Nat) (M : MR) (vs : List Value) (s : MS) (Q : Option Value → MS → Prop) : Prop :=
  ∀ h, MW E w s h → Ev l E d M vs h (PoM E w h Q)
theorem Ex.mono {l : Launch} {E : EN} {d : Nat} {M : MR} {pc : Nat} {lo : LO} {st : List Value} {h : CH} {Q Q' : Outcome → CH → Prop} (hq : ∀ o h', Q o h' → Q' o h') (k : Ex l E d M pc lo st h Q) : Ex l E d M pc lo st h Q' := by
  intro p e R s m args below meth c u C ls H locs cells slots hL hC T hT X
  obtain ⟨t, a, o, h', b1, b2, b3, b4⟩ := k p e R s m args below meth c u C ls H locs cells slots hL hC T hT X
  exact ⟨t, a, o, h', b1, b2, hq o h' b3, b4⟩
theorem Ev.mono {l : Launch} {E : EN} {d : Nat} {M : MR} {vs : List Value} {h : CH} {Q Q' : Outcome → CH → Prop} (hq : ∀ o h', Q o h' → Q' o h') (k : Ev l E d M vs h Q) : Ev l E d M vs h Q' := by
  intro p e ha hc hk s m args below hf happ hP hK
  obtain ⟨n, o, h1, h2, h3, h', h4, h5⟩ := k p e ha hc hk s m args below hf happ hP hK
  exact ⟨n, o, h1, h2, h3, h', hq o h' h4, h5⟩
/-- fewer known locals -/
theorem Ex.wk {l : Launch} {E : EN} {d : Nat} {M : MR} {pc : Nat} {lo lo' : LO} {st : List Value} {h : CH} {Q : Outcome → CH → Prop} (hl : lo'.length = lo.length) (hw : ∀ i, i < lo'.length → lo'[i]? = some none ∨ lo'[i]? = lo[i]?) (k : Ex l E d M pc lo' st h Q) : Ex l E d M pc lo st h Q := by
  intro p e R s m args below meth c u C ls H locs cells slots hL hC
  refine k p e R s m args below meth c u C ls H locs cells slots ⟨hL.1.trans hl.symm, hL.2.1, fun i v hv => ?_⟩ hC
  rcases hw i (List.getElem?_eq_some_iff.mp hv).1 with q | q
  · rw [q] at hv; cases hv
  · rw [q] at hv; exact hL.2.2 i v hv
theorem EvM.mono {l : Launch} {E : EN} {w : MO} {d : Nat} {M : MR} {vs : List Value} {s : MS} {Q Q' : Option Value → MS → Prop} (hq : ∀ r s', Q r s' → Q' r s') (k : EvM l E w d M vs s Q) : EvM l E w d M vs s Q' :=
  fun h hW => (k h hW).mono fun _ _ ⟨r, s', e, m, f, q⟩ => ⟨r, s', e, m, f, hq r s' q⟩
/-- what an array field is -/
theorem mArr_mem {j t n : Nat} (h : mArr j = some (t, n)) : (j, t, n) ∈ mArrs := by
  unfold mArr at h
  cases hf : mArrs.find? (fun q => q.1 == j) with
  | none => rw [hf] at h; cases h
  | some q =>
    rw [hf] at h
    have h1 := List.mem_of_find?_eq_some hf
    have h2 := List.find?_some hf
    obtain ⟨a, b, c⟩ := q
    simp only [Option.map_some, Option.some.injEq, Prod.mk.injEq] at h
    obtain ⟨rfl, rfl⟩ := h
    have : a = j := by simpa using h2
    subst this
    exact h1
theorem mArr_uniq : ∀ q ∈ mArrs, mArr q.1 = some q.2 := by decide +kernel
theorem m_arr {E : EN} {w : MO} {s : MS} {h : CH} (hW : MW E w s h) {j t n : Nat} (hj : mArr j = some (t, n)) : h.2.2 (w.2 j) = some (.inr t, n, mA s j t) := (hW.2.2.1 _ (mArr_mem hj)).2.2
theorem m_arrz {E : EN} {w : MO} {s : MS} {h : CH} (hW : MW E w s h) {j t n : Nat} (hj : mArr j = some (t, n)) : ez E ≤ w.2 j := (hW.2.2.1 _ (mArr_mem hj)).1
section MM
variable {l : Launch} {E : EN} {w : MO} {d : Nat} {M : MR} {pc : Nat} {lo : LO} {st : List Value} {s : MS} {h0 h : CH} {Q : Outcome → CH → Prop}
theorem m_geti {j idx : Nat} (hd : decode (mB M) pc = .ok (.getfield idx, 3)) (hq : LKf (mY M).cls idx j) (hj : j ∈ CF 10) (hk : mkd j = 0) (hW : MW E w s h) {v : Int32} (hv : s.1 j = v) (kk : Ex l E d M (pc + 3) lo (.int v :: st) h Q) : Ex l E d M pc lo (.ref w.1 :: st) h Q := by
  refine x_get hd hq hW.2.1 hj ?_
  have e : mF w s j = .int (s.1 j) := by unfold mF; rw [hk]; rfl
  rw [e, hv]; exact kk
theorem m_getl {j idx : Nat} (hd : decode (mB M) pc = .ok (.getfield idx, 3)) (hq : LKf (mY M).cls idx j) (hj : j ∈ CF 10) (hk : mkd j = 1) (hW : MW E w s h) {v : Int64} (hv : s.2.1 j = v) (kk : Ex l E d M (pc + 3) lo (.long v :: st) h Q) : Ex l E d M pc lo (.ref w.1 :: st) h Q := by
  refine x_get hd hq hW.2.1 hj ?_
  have e : mF w s j = .long (s.2.1 j) := by unfold mF; rw [hk]; rfl
  rw [e, hv]; exact kk
theorem m_geta {j idx : Nat} (hd : decode (mB M) pc = .ok (.getfield idx, 3)) (hq : LKf (mY M).cls idx j) (hj : j ∈ CF 10) (hk : mkd j = 2) (hW : MW E w s h) (kk : Ex l E d M (pc + 3) lo (.ref (w.2 j) :: st) h Q) : Ex l E d M pc lo (.ref w.1 :: st) h Q := by
  refine x_get hd hq hW.2.1 hj ?_
  have e : mF w s j = .ref (w.2 j) := by unfold mF; rw [hk]; rfl
  rw [e]; exact kk
theorem MW.putI {j : Nat} {v : Int32} (hW : MW E w s h) (hk : mkd j = 0) : MW E w (sI s j v) (hset h w.1 (.inl 10, 0, vup (mF w s) j (.int v))) ∧ FRm w h (hset h w.1 (.inl 10, 0, vup (mF w s) j (.int v))) := by
  obtain ⟨h1, h2, h3, h4⟩ := hW
  refine ⟨⟨h1, ?_, fun q hq => ⟨(h3 q hq).1, (h3 q hq).2.1, ?_⟩, h4⟩, rfl, rfl, fun a ha _ => if_neg ha⟩
  · show (if w.1 = w.1 then _ else _) = _
    rw [if_pos rfl]
    congr 3
    funext i
    by_cases hi : i = j
    · subst hi; simp [vup, mF, hk, sI]
    · simp [vup, mF, hi, sI]
  · show (if w.2 q.1 = w.1 then _ else _) = _
    rw [if_neg (h3 q hq).2.1]
    exact (h3 q hq).2.2
theorem MW.putL {j : Nat} {v : Int64} (hW : MW E w s h) (hk : mkd j = 1) : MW E w (sL s j v) (hset h w.1 (.inl 10, 0, vup (mF w s) j (.long v))) ∧ FRm w h (hset h w.1 (.inl 10, 0, vup (mF w s) j (.long v))) := by
  obtain ⟨h1, h2, h3, h4⟩ := hW
  refine ⟨⟨h1, ?_, fun q hq => ⟨(h3 q hq).1, (h3 q hq).2.1, ?_⟩, h4⟩, rfl, rfl, fun a ha _ => if_neg ha⟩
  · show (if w.1 = w.1 then _ else _) = _
    rw [if_pos rfl]
    congr 3
    funext i
    by_cases hi : i = j
    · subst hi; simp [vup, mF, hk, sL]
    · simp [vup, mF, hi, sL]
  · show (if w.2 q.1 = w.1 then _ else _) = _
    rw [if_neg (h3 q hq).2.1]
    exact (h3 q hq).2.2
theorem m_puti {j idx : Nat} {v : Int32} (hd : decode (mB M) pc = .ok (.putfield idx, 3)) (hq : LKf (mY M).cls idx j) (hj : j ∈ CF 10) (hk : mkd j = 0) (hfin : (FT j).2.2.2 = false) (hn : narrow (FY j) (.int v) = .int v) (hfit : fits (FY j) (.int v) = true) (hW : MW E w s h) (hF : FRm w h0 h)
    (kk : ∀ h, MW E w (sI s j v) h → FRm w h0 h → Ex l E d M (pc + 3) lo st h Q) : Ex l E d M pc lo (.int v :: .ref w.1 :: st) h Q := by
  obtain ⟨a, b⟩ := hW.putI (v := v) hk
  exact x_put hd hq hW.2.1 hj hW.1 (Or.inl hfin) hn hfit (kk _ a (hF.trans b))
theorem m_putl {j idx : Nat} {v : Int64} (hd : decode (mB M) pc = .ok (.putfield idx, 3)) (hq : LKf (mY M).cls idx j) (hj : j ∈ CF 10) (hk : mkd j = 1) (hfin : (FT j).2.2.2 = false) (hn : narrow (FY j) (.long v) = .long v) (hfit : fits (FY j) (.long v) = true) (hW : MW E w s h) (hF : FRm w h0 h)
    (kk : ∀ h, MW E w (sL s j v) h → FRm w h0 h → Ex l E d M (pc + 3) lo st h Q) : Ex l E d M pc lo (.long v :: .ref w.1 :: st) h Q := by
  obtain ⟨a, b⟩ := hW.putL (v := v) hk
  exact x_put hd hq hW.2.1 hj hW.1 (Or.inl hfin) hn hfit (kk _ a (hF.trans b))
/-- i is a place of an array of n -/
def inB (i : Int32) (n : Nat) : Prop := ¬ i < 0 ∧ i.toNatClampNeg < n
theorem m_iald {j n : Nat} {i : Int32} (hd : decode (mB M) pc = .ok (.iaload, 1)) (hj : mArr j = some (0, n)) (hb : inB i n) (hW : MW E w s h) {v : Int32} (hv : s.2.2.1 j i.toNatClampNeg = v) (kk : Ex l E d M (pc + 1) lo (.int v :: st) h Q) : Ex l E d M pc lo (.int i :: .ref (w.2 j) :: st) h Q :=
  x_iaload hd (m_arr hW hj) hb.1 rfl hb.2 (by subst hv; exact kk)
theorem m_bald {j n : Nat} {i : Int32} (hd : decode (mB M) pc = .ok (.baload, 1)) (hj : mArr j = some (2, n)) (hb : inB i n) (hW : MW E w s h) {v : Int32} (hv : s.2.2.1 j i.toNatClampNeg = v) (kk : Ex l E d M (pc + 1) lo (.int v :: st) h Q) : Ex l E d M pc lo (.int i :: .ref (w.2 j) :: st) h Q :=
  x_baload hd (m_arr hW hj) (Or.inl rfl) hb.1 rfl hb.2 (by subst hv; exact kk)
theorem m_lald {j n : Nat} {i : Int32} (hd : decode (mB M) pc = .ok (.laload, 1)) (hj : mArr j = some (1, n)) (hb : inB i n) (hW : MW E w s h) {v : Int64} (hv : s.2.2.2 j i.toNatClampNeg = v) (kk : Ex l E d M (pc + 1) lo (.long v :: st) h Q) : Ex l E d M pc lo (.int i :: .ref (w.2 j) :: st) h Q :=
  x_laload hd (m_arr hW hj) hb.1 rfl hb.2 (by subst hv; exact kk)
theorem MW.stA {j t n k : Nat} {v : Int32} (hW : MW E w s h) (hj : mArr j = some (t, n)) (ht : ¬ t = 1) : MW E w (sA s j k v) (hset h (w.2 j) (.inr t, n, vup (mA s j t) k (.int v))) ∧ FRm w h (hset h (w.2 j) (.inr t, n, vup (mA s j t) k (.int v))) := by
  have hm := mArr_mem hj
  obtain ⟨h1, h2, h3, h4⟩ := hW
  refine ⟨⟨h1, ?_, fun q hq => ⟨(h3 q hq).1, (h3 q hq).2.1, ?_⟩, h4⟩, rfl, rfl, fun a _ ha => if_neg (ha _ hm)⟩
  · show (if w.1 = w.2 j then _ else _) = _
    rw [if_neg (Ne.symm (h3 _ hm).2.1)]
    exact h2
  · show (if w.2 q.1 = w.2 j then _ else _) = _
    by_cases hq' : w.2 q.1 = w.2 j
    · rw [if_pos hq']
      have e := h4 q hq _ hm hq'
      have hq2 := mArr_uniq q hq
      rw [e, hj] at hq2
      obtain ⟨a, b⟩ := q
      have e : a = j := e
      subst e
      cases hq2
      congr 3
      funext i
      by_cases hi : i = k
      · subst hi; simp [vup, mA, ht, sA]
      · simp [vup, mA, hi, sA]
    · rw [if_neg hq', (h3 q hq).2.2]
      have hne : ¬ q.1 = j := fun z => hq' (by rw [z])
      congr 3
      funext i
      simp [mA, sA, hne]
theorem MW.stB {j n k : Nat} {v : Int64} (hW : MW E w s h) (hj : mArr j = some (1, n)) : MW E w (sB s j k v) (hset h (w.2 j) (.inr 1, n, vup (mA s j 1) k (.long v))) ∧ FRm w h (hset h (w.2 j) (.inr 1, n, vup (mA s j 1) k (.long v))) := by
  have hm := mArr_mem hj
  obtain ⟨h1, h2, h3, h4⟩ := hW
  refine ⟨⟨h1, ?_, fun q hq => ⟨(h3 q hq).1, (h3 q hq).2.1, ?_⟩, h4⟩, rfl, rfl, fun a _ ha => if_neg (ha _ hm)⟩
  · show (if w.1 = w.2 j then _ else _) = _
    rw [if_neg (Ne.symm (h3 _ hm).2.1)]
    exact h2
  · show (if w.2 q.1 = w.2 j then _ else _) = _
    by_cases hq' : w.2 q.1 = w.2 j
    · rw [if_pos hq']
      have e := h4 q hq _ hm hq'
      have hq2 := mArr_uniq q hq
      rw [e, hj] at hq2
      obtain ⟨a, b⟩ := q
      have e : a = j := e
      subst e
      cases hq2
      congr 3
      funext i
      by_cases hi : i = k
      · subst hi; simp [vup, mA, sB]
      · simp [vup, mA, hi, sB]
    · rw [if_neg hq', (h3 q hq).2.2]
      have hne : ¬ q.1 = j := fun z => hq' (by rw [z])
      congr 3
      funext i
      simp [mA, sB, hne]
theorem m_iast {j n : Nat} {i v : Int32} (hd : decode (mB M) pc = .ok (.iastore, 1)) (hj : mArr j = some (0, n)) (hb : inB i n) (hW : MW E w s h) (hF : FRm w h0 h) (kk : ∀ h, MW E w (sA s j i.toNatClampNeg v) h → FRm w h0 h → Ex l E d M (pc + 1) lo st h Q) : Ex l E d M pc lo (.int v :: .int i :: .ref (w.2 j) :: st) h Q := by
  obtain ⟨a, b⟩ := hW.stA (k := i.toNatClampNeg) (v := v) hj (by decide)
  exact x_iastore hd (m_arr hW hj) (m_arrz hW hj) hb.1 rfl hb.2 (kk _ a (hF.trans b))
theorem m_last {j n : Nat} {i : Int32} {v : Int64} (hd : decode (mB M) pc = .ok (.lastore, 1)) (hj : mArr j = some (1, n)) (hb : inB i n) (hW : MW E w s h) (hF : FRm w h0 h) (kk : ∀ h, MW E w (sB s j i.toNatClampNeg v) h → FRm w h0 h → Ex l E d M (pc + 1) lo st h Q) : Ex l E d M pc lo (.long v :: .int i :: .ref (w.2 j) :: st) h Q := by
  obtain ⟨a, b⟩ := hW.stB (k := i.toNatClampNeg) (v := v) hj
  exact x_lastore hd (m_arr hW hj) (m_arrz hW hj) hb.1 rfl hb.2 (kk _ a (hF.trans b))
theorem m_bast {j n : Nat} {i v : Int32} (hd : decode (mB M) pc = .ok (.bastore, 1)) (hj : mArr j = some (2, n)) (hb : inB i n) (hW : MW E w s h) (hF : FRm w h0 h) (kk : ∀ h, MW E w (sA s j i.toNatClampNeg v.toInt8.toInt32) h → FRm w h0 h → Ex l E d M (pc + 1) lo st h Q) : Ex l E d M pc lo (.int v :: .int i :: .ref (w.2 j) :: st) h Q := by
  obtain ⟨a, b⟩ := hW.stA (k := i.toNatClampNeg) (v := v.toInt8.toInt32) hj (by decide)
  exact x_bastore hd (m_arr hW hj) (m_arrz hW hj) hb.1 rfl hb.2 (kk _ a (hF.trans b))
end MM
section MC
variable {l : Launch} {E : EN} {w : MO} {d : Nat} {M : MR} {pc : Nat} {lo : LO} {st : List Value} {s : MS} {h0 h : CH} {Q : Outcome → CH → Prop} {P : Option Value → MS → Prop}
/-- a call of one of the model's own methods -/
theorem m_inv {M' : MR} {idx n : Nat} {vs stk : List Value} (hd : decode (mB M) pc = .ok (.invokevirtual idx, 3)) (hM : OKm M' n) (hin : Cond.instanceMethod (mY M') ∈ lw_all) (hq : Cond.methodLink (mY M).cls idx (mY M') ∈ lw_all) (hsel : Cond.selects (CN 10) (mY M') (mY M') ∈ lw_all) (hv : vs.length = n) (hs : stk = vs.reverse ++ .ref w.1 :: st) (hw : (st.map fun v => v.category).sum ≤ 20) (hLm : lo.length = mL M)
    (hW : MW E w s h) (hF : FRm w h0 h) (hE : EvM l E w d M' (.ref w.1 :: vs) s P) (kr : ∀ v s', P v s' → ∀ h, MW E w s' h → FRm w h0 h → Ex l E (d + 1) M (pc + 3) lo (v.toList ++ st) h Q) : Ex l E (d + 1) M pc lo stk h Q := by
  refine x_invV hd hM hin hq hW.2.1 hsel (Or.inl rfl) hv hs hw hLm (hE h hW) ?_ ?_
  · rintro v h' ⟨r, s', e, m, f, q⟩
    cases e
    exact kr _ s' q h' m (hF.trans f)
  · rintro a h' ⟨r, s', e, m, f, q⟩
    cases e
theorem m_invS {M' : MR} {idx n : Nat} {vs stk : List Value} (hd : decode (mB M) pc = .ok (.invokestatic idx, 3)) (hM : OKm M' n) (hst : Cond.static (mY M') ∈ lw_all) (hq : Cond.methodLink (mY M).cls idx (mY M') ∈ lw_all) (hv : vs.length = n) (hs : stk = vs.reverse ++ st) (hw : (st.map fun v => v.category).sum ≤ 20) (hLm : lo.length = mL M)
    (hW : MW E w s h) (hF : FRm w h0 h) (hE : EvM l E w d M' vs s P) (kr : ∀ v s', P v s' → ∀ h, MW E w s' h → FRm w h0 h → Ex l E (d + 1) M (pc + 3) lo (v.toList ++ st) h Q) : Ex l E (d + 1) M pc lo stk h Q := by
  refine x_invS hd hM hst (Or.inl hq) hv hs hw hLm (hE h hW) ?_ ?_
  · rintro v h' ⟨r, s', e, m, f, q⟩
    cases e
    exact kr _ s' q h' m (hF.trans f)
  · rintro a h' ⟨r, s', e, m, f, q⟩
    cases e
theorem EvM.of {vs : List Value} {Q : Option Value → MS → Prop} (hst : l.stackTraces = false) (hp : plainName (mY M).cls = true) (hl : (evs vs).length ≤ mL M) (hk : ExM l E w d M 0 (ent vs (mL M)) [] s Q) : EvM l E w d M vs s Q :=
  fun h hW => Ev.of hst hp hl (hk h h hW (FRm.rf w h))
end MC
def wkL : LO → LO → Prop
  | [], [] => True
  | none :: a, _ :: b => wkL a b
  | some v :: a, w :: b => w = some v ∧ wkL a b
  | _, _ => False
theorem wkL_len : ∀ a b : LO, wkL a b → a.length = b.length
  | [], [], _ => rfl
  | none :: a, _ :: b, h => by simp [wkL_len a b h]
  | some v :: a, w :: b, h => by simp [wkL_len a b h.2]
  | [], _ :: _, h => by simp [wkL] at h
  | none :: _, [], h => by simp [wkL] at h
  | some _ :: _, [], h => by simp [wkL] at h
theorem wkL_get : ∀ (a b : LO), wkL a b → ∀ i, i < a.length → a[i]? = some none ∨ a[i]? = b[i]?
  | [], [], _, i, hi => by simp at hi
  | none :: a, w :: b, h, i, hi => by
    cases i with
    | zero => exact Or.inl rfl
    | succ i => simpa using wkL_get a b h i (by simpa using hi)
  | some v :: a, w :: b, h, i, hi => by
    cases i with
    | zero => right; simp [h.1]
    | succ i => simpa using wkL_get a b h.2 i (by simpa using hi)
  | [], _ :: _, h, _, _ => by simp [wkL] at h
  | none :: _, [], h, _, _ => by simp [wkL] at h
  | some _ :: _, [], h, _, _ => by simp [wkL] at h
theorem Ex.wkl {l : Launch} {E : EN} {d : Nat} {M : MR} {pc : Nat} {lo lo' : LO} {st : List Value} {h : CH} {Q : Outcome → CH → Prop} (hw : wkL lo' lo) (k : Ex l E d M pc lo' st h Q) : Ex l E d M pc lo st h Q := Ex.wk (wkL_len _ _ hw) (wkL_get _ _ hw) k
theorem i32_of {x y : Int32} (h : x.toInt = y.toInt) : x = y := Int32.toInt_inj.mp h
theorem x_tableD {l : Launch} {E : EN} {d : Nat} {M : MR} {pc : Nat} {lo : LO} {st : List Value} {h : CH} {Q : Outcome → CH → Prop} {dflt lo0 hi : Int} {offs : Array Int} {len : Nat} {x : Int32} {tgt : Nat} (ks : List Int) (hd : decode (mB M) pc = .ok (.tableswitch dflt lo0 hi offs, len)) (hks : ∀ k ∈ ks, x.toInt ≠ k)
    (hof : (List.range offs.size).all (fun i => decide ((lo0 + i) ∈ ks) || decide (offs[i]? = some dflt)) = true) (hsz : hi + 1 = lo0 + offs.size) (ht : (pc : Int) + dflt = (tgt : Int)) (kk : Ex l E d M tgt lo st h Q) : Ex l E d M pc lo (.int x :: st) h Q := by
  by_cases h1 : x.toInt < lo0
  · exact x_tableOut hd (Or.inl h1) ht kk
  · by_cases h2 : hi < x.toInt
    · exact x_tableOut hd (Or.inr h2) ht kk
    · have hi' : (x.toInt - lo0).toNat < offs.size := by omega
      have := List.all_eq_true.mp hof _ (List.mem_range.mpr hi')
      simp only [Bool.or_eq_true, decide_eq_true_eq] at this
      rcases this with q | q
      · exact absurd (by omega) (hks _ q)
      · exact x_tableIn hd h1 h2 q ht kk
theorem lkd (ps : List (Int × Int)) (dflt n : Int) (h : ∀ q ∈ ps, q.1 ≠ n) : Op.lookupswitch.offset ps dflt n = dflt := by
  induction ps with
  | nil => rfl
  | cons q r ih =>
    obtain ⟨a, o⟩ := q
    rw [Op.lookupswitch.offset_cons, if_neg (h (a, o) List.mem_cons_self)]
    exact ih fun q hq => h q (List.mem_cons_of_mem _ hq)
