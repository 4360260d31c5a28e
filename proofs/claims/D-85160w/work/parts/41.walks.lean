/-! WALKS OVER THE COMPONENT'S WORLD -/
def Frz (f0 f : RH) : Prop := f0.1 ≤ f.1 ∧ f0.2.1 ≤ f.2.1 ∧ f0.2.2.2 ≤ f.2.2.2 ∧ ∀ a, a < f0.2.2.2 → f.2.2.1 a = f0.2.2.1 a
theorem Frz.rf (f : RH) : Frz f f := ⟨Nat.le_refl _, Nat.le_refl _, Nat.le_refl _, fun _ _ => rfl⟩
theorem Frz.trans {a b c : RH} (h1 : Frz a b) (h2 : Frz b c) : Frz a c := ⟨Nat.le_trans h1.1 h2.1, Nat.le_trans h1.2.1 h2.2.1, Nat.le_trans h1.2.2.1 h2.2.2.1, fun x hx => (h2.2.2.2 x (Nat.lt_of_lt_of_le hx h1.2.2.1)).trans (h1.2.2.2 x hx)⟩
theorem Frz.set {f : RH} {a j : Nat} {v : Value} (h : f.2.2.2 ≤ a) : Frz f (fset f a j v) := ⟨Nat.le_refl _, Nat.le_refl _, Nat.le_refl _, fun x hx => if_neg (by omega)⟩
theorem Frz.push {f : RH} (h : f.2.2.2 ≤ f.1) (x : (Nat ⊕ Nat) × Nat × (Nat → Value)) (n : Nat) : Frz f (fpush f x n) := ⟨Nat.le_succ _, Nat.le_add_right _ _, Nat.le_refl _, fun x hx => if_neg (by omega)⟩
theorem Frz.exc (f : RH) : Frz f (fexc f) := ⟨Nat.le_add_right _ _, Nat.le_add_right _ _, Nat.le_refl _, fun _ _ => rfl⟩
theorem Frz.freeze {f : RH} (h : f.2.2.2 ≤ f.1) : Frz f (frz f) := ⟨Nat.le_refl _, Nat.le_refl _, h, fun _ _ => rfl⟩
/-- an exception, by its class -/
def xA (w : CO) (h : CH) (k a : Nat) : Prop := (k = 9 ∧ a = w.1 9) ∨ (k = 1 ∧ a = w.1 1) ∨ ((k = 35 ∨ k = 36 ∨ k = 37) ∧ ∃ c, h.2.2 a = some (.inl k, 1, c))
/-- how a method ends: with an answer, or with an exception of a class -/
abbrev KO : Type := Option Value ⊕ Nat
def PoC (E : EN) (w : CO) (f0 : RH) (Q : KO → CS → RH → Prop) : Outcome → CH → Prop := fun o h' => ∃ s' f', CW E w s' f' h' ∧ Frz f0 f' ∧ ((∃ r, o = .returned r ∧ Q (.inl r) s' f') ∨ ∃ k a, o = .threw a ∧ xA w h' k a ∧ Q (.inr k) s' f')
def ExC (l : Launch) (E : EN) (w : CO) (d : Nat) (M : MR) (pc : Nat) (lo : LO) (st : List Value) (s : CS) (f : RH) (Q : KO → CS → RH → Prop) : Prop :=
  ∀ f0 h, CW E w s f h → Frz f0 f → Ex l E d M pc lo st h (PoC E w f0 Q)
def EvC (l : Launch) (E : EN) (w : CO) (d : Nat) (M : MR) (vs : List Value) (s : CS) (f : RH) (Q : KO → CS → RH → Prop) : Prop :=
  ∀ h, CW E w s f h → Ev l E d M vs h (PoC E w f Q)
theorem PoC.mono {E : EN} {w : CO} {f0 : RH} {Q Q' : KO → CS → RH → Prop} (hq : ∀ o s f, Frz f0 f → Q o s f → Q' o s f) {o : Outcome} {h : CH} (k : PoC E w f0 Q o h) : PoC E w f0 Q' o h := by
  obtain ⟨s, f, a, b, c⟩ := k
  refine ⟨s, f, a, b, ?_⟩
  rcases c with ⟨r, c1, c2⟩ | ⟨k, a, c1, c2, c3⟩
  · exact Or.inl ⟨r, c1, hq _ _ _ b c2⟩
  · exact Or.inr ⟨k, a, c1, c2, hq _ _ _ b c3⟩
theorem EvC.mono {l : Launch} {E : EN} {w : CO} {d : Nat} {M : MR} {vs : List Value} {s : CS} {f : RH} {Q Q' : KO → CS → RH → Prop} (hq : ∀ o s' f', Frz f f' → Q o s' f' → Q' o s' f') (k : EvC l E w d M vs s f Q) : EvC l E w d M vs s f Q' :=
  fun h hW => (k h hW).mono fun _ _ q => q.mono hq
theorem EvC.of {l : Launch} {E : EN} {w : CO} {d : Nat} {M : MR} {vs : List Value} {s : CS} {f : RH} {Q : KO → CS → RH → Prop} (hst : l.stackTraces = false) (hp : plainName (mY M).cls = true) (hl : (evs vs).length ≤ mL M) (hk : ExC l E w d M 0 (ent vs (mL M)) [] s f Q) : EvC l E w d M vs s f Q :=
  fun h hW => Ev.of hst hp hl (hk f h hW (Frz.rf f))
/-- a call in a world where nothing changes any more -/
theorem EvC.frozen {l : Launch} {E : EN} {w : CO} {d : Nat} {M : MR} {vs : List Value} {s : CS} {f : RH} {Q : KO → CS → RH → Prop} (hb : f.2.2.2 ≤ f.1) (k : EvC l E w d M vs s (frz f) (fun o s' f' => Frz (frz f) f' → Q o s' f')) : EvC l E w d M vs s f Q :=
  fun h hW => (k h hW.freeze).mono fun _ _ q => by
    obtain ⟨s', f', a, b, c⟩ := q
    refine ⟨s', f', a, (Frz.freeze hb).trans b, ?_⟩
    rcases c with ⟨r, c1, c2⟩ | ⟨k, a, c1, c2, c3⟩
    · exact Or.inl ⟨r, c1, c2 b⟩
    · exact Or.inr ⟨k, a, c1, c2, c3 b⟩
section CC
variable {l : Launch} {E : EN} {w : CO} {d : Nat} {M : MR} {pc : Nat} {lo : LO} {st : List Value} {s : CS} {f f0 : RH} {h : CH} {Q : Outcome → CH → Prop}
theorem c_getI {k j idx : Nat} (hd : decode (mB M) pc = .ok (.getfield idx, 3)) (hq : LKf (mY M).cls idx j) (hk : k < 10) (hj : j ∈ oF k) (hc : ckd j = 0) (hW : CW E w s f h) {v : Int32} (hv : s.1 j = v) (kk : Ex l E d M (pc + 3) lo (.int v :: st) h Q) : Ex l E d M pc lo (.ref (w.1 k) :: st) h Q := by
  obtain ⟨-, -, c, g1, g2⟩ := hW.ob k hk
  refine x_get hd hq g1 (oF_sub hj) ?_
  have e : cF w s j = .int (s.1 j) := by unfold cF; rw [hc]; rfl
  rw [g2 j hj, e, hv]; exact kk
theorem c_getO {k j idx k' : Nat} (hd : decode (mB M) pc = .ok (.getfield idx, 3)) (hq : LKf (mY M).cls idx j) (hk : k < 10) (hj : j ∈ oF k) (hc : cRef j = some k') (hW : CW E w s f h) (kk : Ex l E d M (pc + 3) lo (.ref (w.1 k') :: st) h Q) : Ex l E d M pc lo (.ref (w.1 k) :: st) h Q := by
  obtain ⟨-, -, c, g1, g2⟩ := hW.ob k hk
  refine x_get hd hq g1 (oF_sub hj) ?_
  have e : cF w s j = .ref (w.1 k') := by unfold cF ckd; rw [hc]; rfl
  rw [g2 j hj, e]; exact kk
theorem c_getA {k j idx : Nat} (hd : decode (mB M) pc = .ok (.getfield idx, 3)) (hq : LKf (mY M).cls idx j) (hk : k < 10) (hj : j ∈ oF k) (hc : ckd j = 2) (hW : CW E w s f h) (kk : Ex l E d M (pc + 3) lo (.ref (w.2.1 j) :: st) h Q) : Ex l E d M pc lo (.ref (w.1 k) :: st) h Q := by
  obtain ⟨-, -, c, g1, g2⟩ := hW.ob k hk
  refine x_get hd hq g1 (oF_sub hj) ?_
  have e : cF w s j = .ref (w.2.1 j) := by unfold cF; rw [hc]; rfl
  rw [g2 j hj, e]; exact kk
theorem c_getR {k j idx : Nat} (hd : decode (mB M) pc = .ok (.getfield idx, 3)) (hq : LKf (mY M).cls idx j) (hk : k < 10) (hj : j ∈ oF k) (hc : ckd j = 3) (hW : CW E w s f h) {v : Value} (hv : s.2.1 j = v) (kk : Ex l E d M (pc + 3) lo (v :: st) h Q) : Ex l E d M pc lo (.ref (w.1 k) :: st) h Q := by
  obtain ⟨-, -, c, g1, g2⟩ := hW.ob k hk
  refine x_get hd hq g1 (oF_sub hj) ?_
  have e : cF w s j = s.2.1 j := by unfold cF; rw [hc]; rfl
  rw [g2 j hj, e, hv]; exact kk
theorem c_putI {k j idx : Nat} {v : Int32} (hd : decode (mB M) pc = .ok (.putfield idx, 3)) (hq : LKf (mY M).cls idx j) (hk : k < 10) (hj : j ∈ oF k) (hc : ckd j = 0) (hfin : (FT j).2.2.2 = false) (hn : narrow (FY j) (.int v) = .int v) (hfit : fits (FY j) (.int v) = true) (hW : CW E w s f h)
    (kk : ∀ h, CW E w (uI s j v) f h → Ex l E d M (pc + 3) lo st h Q) : Ex l E d M pc lo (.int v :: .ref (w.1 k) :: st) h Q := by
  obtain ⟨g0, -, c, g1, g2⟩ := hW.ob k hk
  refine x_put hd hq g1 (oF_sub hj) g0 (Or.inl hfin) hn hfit (kk _ (hW.put hk hj g1 g2 ?_ (fun i hi => ?_) rfl))
  · unfold cF; rw [hc]; show Value.int (if j = j then v else _) = _; rw [if_pos rfl]
  · unfold cF
    have e : (uI s j v).1 i = s.1 i := if_neg hi
    rw [e]; rfl
theorem c_putR {k j idx : Nat} {v : Value} (hd : decode (mB M) pc = .ok (.putfield idx, 3)) (hq : LKf (mY M).cls idx j) (hk : k < 10) (hj : j ∈ oF k) (hc : ckd j = 3) (hfin : (FT j).2.2.2 = false) (hn : narrow (FY j) v = v) (hfit : fits (FY j) v = true) (hW : CW E w s f h)
    (kk : ∀ h, CW E w (uR s j v) f h → Ex l E d M (pc + 3) lo st h Q) : Ex l E d M pc lo (v :: .ref (w.1 k) :: st) h Q := by
  obtain ⟨g0, -, c, g1, g2⟩ := hW.ob k hk
  refine x_put hd hq g1 (oF_sub hj) g0 (Or.inl hfin) hn hfit (kk _ (hW.put hk hj g1 g2 ?_ (fun i hi => ?_) rfl))
  · unfold cF; rw [hc]; show (if j = j then v else _) = _; rw [if_pos rfl]
  · unfold cF
    have e : (uR s j v).2.1 i = s.2.1 i := if_neg hi
    rw [e]; rfl
theorem c_iald {j n : Nat} {i : Int32} (hd : decode (mB M) pc = .ok (.iaload, 1)) (hj : cArr j = some (0, n)) (hb : inB i n) (hW : CW E w s f h) {v : Int32} (hv : s.2.2.1 j i.toNatClampNeg = v) (kk : Ex l E d M (pc + 1) lo (.int v :: st) h Q) : Ex l E d M pc lo (.int i :: .ref (w.2.1 j) :: st) h Q := by
  obtain ⟨-, -, c, g1, g2⟩ := hW.ar _ (cArr_mem hj)
  refine x_iaload hd g1 hb.1 rfl hb.2 ?_
  rw [g2 _ hb.2]
  subst hv; exact kk
theorem c_bald {j n t : Nat} {i : Int32} (hd : decode (mB M) pc = .ok (.baload, 1)) (hj : cArr j = some (t, n)) (ht : t = 2 ∨ t = 3) (hb : inB i n) (hW : CW E w s f h) {v : Int32} (hv : s.2.2.1 j i.toNatClampNeg = v) (kk : Ex l E d M (pc + 1) lo (.int v :: st) h Q) : Ex l E d M pc lo (.int i :: .ref (w.2.1 j) :: st) h Q := by
  obtain ⟨-, -, c, g1, g2⟩ := hW.ar _ (cArr_mem hj)
  refine x_baload hd g1 ht hb.1 rfl hb.2 ?_
  rw [g2 _ hb.2]
  subst hv
  rcases ht with rfl | rfl
  · exact kk
  · exact kk
theorem c_aald {j n : Nat} {i : Int32} (hd : decode (mB M) pc = .ok (.aaload, 1)) (hj : cArr j = some (4, n)) (hb : inB i n) (hW : CW E w s f h) {v : Value} (hv : s.2.2.2 j i.toNatClampNeg = v) (kk : Ex l E d M (pc + 1) lo (v :: st) h Q) : Ex l E d M pc lo (.int i :: .ref (w.2.1 j) :: st) h Q := by
  obtain ⟨-, -, c, g1, g2⟩ := hW.ar _ (cArr_mem hj)
  refine x_aaload hd g1 (Nat.le_refl 4) hb.1 rfl hb.2 ?_
  rw [g2 _ hb.2]
  subst hv; exact kk
theorem CW.stA {j t n k : Nat} {v : Int32} (hW : CW E w s f h) (hj : cArr j = some (t, n)) (ht : ¬ t = 4) {c : Nat → Value} (hc : h.2.2 (w.2.1 j) = some (.inr t, n, c)) (hcf : ∀ i, i < n → c i = cA s j t i) : CW E w (uA s j k v) f (hset h (w.2.1 j) (.inr t, n, vup c k (.int v))) := by
  refine hW.sto hj hc hcf ?_ (fun i hi => ?_) (fun q hq hne i => ?_) rfl rfl
  · simp [cA, uA, ht]
  · simp [cA, uA, hi]
  · simp [cA, uA, hne]
theorem CW.stT {j n k : Nat} {v : Value} (hW : CW E w s f h) (hj : cArr j = some (4, n)) {c : Nat → Value} (hc : h.2.2 (w.2.1 j) = some (.inr 4, n, c)) (hcf : ∀ i, i < n → c i = cA s j 4 i) : CW E w (uT s j k v) f (hset h (w.2.1 j) (.inr 4, n, vup c k v)) := by
  refine hW.sto hj hc hcf ?_ (fun i hi => ?_) (fun q hq hne i => ?_) rfl rfl
  · simp [cA, uT]
  · simp [cA, uT, hi]
  · simp [cA, uT, hne]
theorem c_iast {j n : Nat} {i v : Int32} (hd : decode (mB M) pc = .ok (.iastore, 1)) (hj : cArr j = some (0, n)) (hb : inB i n) (hW : CW E w s f h) (kk : ∀ h, CW E w (uA s j i.toNatClampNeg v) f h → Ex l E d M (pc + 1) lo st h Q) : Ex l E d M pc lo (.int v :: .int i :: .ref (w.2.1 j) :: st) h Q := by
  obtain ⟨g0, -, c, g1, g2⟩ := hW.ar _ (cArr_mem hj)
  exact x_iastore hd g1 g0 hb.1 rfl hb.2 (kk _ (hW.stA hj (by decide) g1 g2))
theorem c_bast {j n : Nat} {i v : Int32} (hd : decode (mB M) pc = .ok (.bastore, 1)) (hj : cArr j = some (2, n)) (hb : inB i n) (hW : CW E w s f h) (kk : ∀ h, CW E w (uA s j i.toNatClampNeg v.toInt8.toInt32) f h → Ex l E d M (pc + 1) lo st h Q) : Ex l E d M pc lo (.int v :: .int i :: .ref (w.2.1 j) :: st) h Q := by
  obtain ⟨g0, -, c, g1, g2⟩ := hW.ar _ (cArr_mem hj)
  exact x_bastore hd g1 g0 hb.1 rfl hb.2 (kk _ (hW.stA hj (by decide) g1 g2))
theorem c_zast {j n : Nat} {i v : Int32} (hd : decode (mB M) pc = .ok (.bastore, 1)) (hj : cArr j = some (3, n)) (hb : inB i n) (hn : narrow .boolean (.int v) = .int v) (hW : CW E w s f h) (kk : ∀ h, CW E w (uA s j i.toNatClampNeg v) f h → Ex l E d M (pc + 1) lo st h Q) : Ex l E d M pc lo (.int v :: .int i :: .ref (w.2.1 j) :: st) h Q := by
  obtain ⟨g0, -, c, g1, g2⟩ := hW.ar _ (cArr_mem hj)
  refine x_zastore hd g1 g0 hb.1 rfl hb.2 ?_
  rw [hn]
  exact kk _ (hW.stA hj (by decide) g1 g2)
/-- nothing, or a thing -/
def isT (f : RH) (v : Value) : Prop := v = .null ∨ ∃ a, v = .ref a ∧ (tg f a = some (.inl 29) ∨ tg f a = some (.inl 30) ∨ tg f a = some (.inl 31) ∨ tg f a = some (.inl 32))
theorem ck29 : CKy 29 "TallySlate$Thing" := Or.inr (by decide +kernel)
theorem ck30 : CKy 30 "TallySlate$Thing" := Or.inr (by decide +kernel)
theorem ck31 : CKy 31 "TallySlate$Thing" := Or.inr (by decide +kernel)
theorem ck32 : CKy 32 "TallySlate$Thing" := Or.inr (by decide +kernel)
theorem isT.cell (hW : CW E w s f h) {a : Nat} (ht : tg f a = some (.inl 29) ∨ tg f a = some (.inl 30) ∨ tg f a = some (.inl 31) ∨ tg f a = some (.inl 32)) : ∃ k n g, h.2.2 a = some (.inl k, n, g) ∧ CKy k "TallySlate$Thing" := by
  rcases ht with q | q | q | q
  · obtain ⟨c, g, -⟩ := hW.cell q; exact ⟨_, _, _, g, ck29⟩
  · obtain ⟨c, g, -⟩ := hW.cell q; exact ⟨_, _, _, g, ck30⟩
  · obtain ⟨c, g, -⟩ := hW.cell q; exact ⟨_, _, _, g, ck31⟩
  · obtain ⟨c, g, -⟩ := hW.cell q; exact ⟨_, _, _, g, ck32⟩
theorem c_aast {j n : Nat} {i : Int32} {v : Value} (hd : decode (mB M) pc = .ok (.aastore, 1)) (hj : cArr j = some (4, n)) (hb : inB i n) (hv : isT f v) (hW : CW E w s f h) (kk : ∀ h, CW E w (uT s j i.toNatClampNeg v) f h → Ex l E d M (pc + 1) lo st h Q) : Ex l E d M pc lo (v :: .int i :: .ref (w.2.1 j) :: st) h Q := by
  obtain ⟨g0, -, c, g1, g2⟩ := hW.ar _ (cArr_mem hj)
  rcases hv with rfl | ⟨a, rfl, ht⟩
  · exact x_aastore0 hd g1 g0 rfl hb.1 rfl hb.2 (kk _ (hW.stT hj g1 g2))
  · obtain ⟨k, n', g, h1, h2⟩ := isT.cell hW ht
    exact x_aastore hd g1 g0 rfl h1 h2 hb.1 rfl hb.2 (kk _ (hW.stT hj g1 g2))
/-! of all else -/
theorem c_fget {a k j idx : Nat} (hd : decode (mB M) pc = .ok (.getfield idx, 3)) (hq : LKf (mY M).cls idx j) (ht : tg f a = some (.inl k)) (h0 : ln f a = 0) (hj : j ∈ CF k) (h30 : k = 30 → j = 204) (hW : CW E w s f h) {v : Value} (hv : vl f a j = v) (kk : Ex l E d M (pc + 3) lo (v :: st) h Q) : Ex l E d M pc lo (.ref a :: st) h Q := by
  obtain ⟨c, g1, g2, g3⟩ := hW.cell ht
  rw [h0] at g1
  refine x_get hd hq g1 hj ?_
  by_cases e : k = 30
  · subst e
    rw [h30 rfl, g3 rfl, ← h30 rfl, hv]; exact kk
  · rw [g2 (fun z => e (by cases z; rfl)), hv]; exact kk
theorem c_fput {a k j idx : Nat} {v : Value} (hd : decode (mB M) pc = .ok (.putfield idx, 3)) (hq : LKf (mY M).cls idx j) (ht : tg f a = some (.inl k)) (h0 : ln f a = 0) (hj : j ∈ CF k) (h30 : k ≠ 30) (hb : f.2.2.2 ≤ a) (hfin : (FT j).2.2.2 = false ∨ ((FT j).1 = (mY M).cls ∧ (mY M).name = "<init>")) (hn : narrow (FY j) v = v) (hfit : fits (FY j) v = true) (hW : CW E w s f h) (hF : Frz f0 f)
    (kk : ∀ h, CW E w s (fset f a j v) h → Frz f0 (fset f a j v) → Ex l E d M (pc + 3) lo st h Q) : Ex l E d M pc lo (v :: .ref a :: st) h Q := by
  obtain ⟨c, g1, g2, g3⟩ := hW.cell ht
  have hw := hW.fput ht hb g1 (fun z => h30 (by cases z; rfl)) (j := j) (v := v)
  rw [h0] at g1 hw
  exact x_put hd hq g1 hj (Nat.le_trans hW.cb0 hb) hfin hn hfit (kk _ hw (hF.trans (Frz.set hb)))
theorem c_fputT {a ta idx : Nat} (hd : decode (mB M) pc = .ok (.putfield idx, 3)) (hq : LKf (mY M).cls idx 204) (ht : tg f a = some (.inl 30)) (h0 : ln f a = 0) (hb : f.2.2.2 ≤ a) (hta : tg f ta = some (.inr 11)) (hfin : (FT 204).2.2.2 = false ∨ ((FT 204).1 = (mY M).cls ∧ (mY M).name = "<init>")) (hW : CW E w s f h) (hF : Frz f0 f)
    (kk : ∀ f1, f1 = fchg (fset f a 204 (.ref ta)) (3 * ln f ta + 1) → ∀ h, CW E w s f1 h → Frz f0 f1 → Ex l E d M (pc + 3) lo st h Q) : Ex l E d M pc lo (.ref ta :: .ref a :: st) h Q := by
  obtain ⟨c, g1, g2, g3⟩ := hW.cell ht
  have hw := hW.fputT ht hb hta g1
  rw [h0] at g1 hw
  exact x_put hd hq g1 (by decide) (Nat.le_trans hW.cb0 hb) hfin rfl rfl (kk _ rfl _ hw (hF.trans ⟨Nat.le_refl _, Nat.le_add_right _ _, Nat.le_refl _, fun x hx => if_neg (by omega)⟩))
theorem c_alen {a t : Nat} (hd : decode (mB M) pc = .ok (.arraylength, 1)) (ht : tg f a = some (.inr t)) (hW : CW E w s f h) (kk : Ex l E d M (pc + 1) lo (.int (nI (ln f a)) :: st) h Q) : Ex l E d M pc lo (.ref a :: st) h Q := by
  obtain ⟨c, g1, -, -⟩ := hW.cell ht
  exact x_alen hd g1 kk
theorem c_falen {j t n : Nat} (hd : decode (mB M) pc = .ok (.arraylength, 1)) (hj : cArr j = some (t, n)) (hW : CW E w s f h) (kk : Ex l E d M (pc + 1) lo (.int (nI n) :: st) h Q) : Ex l E d M pc lo (.ref (w.2.1 j) :: st) h Q := by
  obtain ⟨-, -, c, g1, g2⟩ := hW.ar _ (cArr_mem hj)
  exact x_alen hd g1 kk
theorem c_fiald {a : Nat} {i : Int32} (hd : decode (mB M) pc = .ok (.iaload, 1)) (ht : tg f a = some (.inr 0)) (hb : inB i (ln f a)) (hW : CW E w s f h) {v : Value} (hv : vl f a i.toNatClampNeg = v) (kk : Ex l E d M (pc + 1) lo (v :: st) h Q) : Ex l E d M pc lo (.int i :: .ref a :: st) h Q := by
  obtain ⟨c, g1, g2, -⟩ := hW.cell ht
  rw [g2 (fun z => by cases z)] at g1
  exact x_iaload hd g1 hb.1 rfl hb.2 (by subst hv; exact kk)
theorem c_flald {a : Nat} {i : Int32} (hd : decode (mB M) pc = .ok (.laload, 1)) (ht : tg f a = some (.inr 1)) (hb : inB i (ln f a)) (hW : CW E w s f h) {v : Value} (hv : vl f a i.toNatClampNeg = v) (kk : Ex l E d M (pc + 1) lo (v :: st) h Q) : Ex l E d M pc lo (.int i :: .ref a :: st) h Q := by
  obtain ⟨c, g1, g2, -⟩ := hW.cell ht
  rw [g2 (fun z => by cases z)] at g1
  exact x_laload hd g1 hb.1 rfl hb.2 (by subst hv; exact kk)
theorem c_fbald {a t : Nat} {i : Int32} (hd : decode (mB M) pc = .ok (.baload, 1)) (ht : tg f a = some (.inr t)) (ht2 : t = 2 ∨ t = 3) (hb : inB i (ln f a)) (hW : CW E w s f h) {v : Value} (hv : vl f a i.toNatClampNeg = v) (kk : Ex l E d M (pc + 1) lo (v :: st) h Q) : Ex l E d M pc lo (.int i :: .ref a :: st) h Q := by
  obtain ⟨c, g1, g2, -⟩ := hW.cell ht
  rw [g2 (fun z => by cases z)] at g1
  exact x_baload hd g1 ht2 hb.1 rfl hb.2 (by subst hv; exact kk)
theorem c_faald {a t : Nat} {i : Int32} (hd : decode (mB M) pc = .ok (.aaload, 1)) (ht : tg f a = some (.inr t)) (ht2 : 4 ≤ t) (hb : inB i (ln f a)) (hW : CW E w s f h) {v : Value} (hv : vl f a i.toNatClampNeg = v) (kk : Ex l E d M (pc + 1) lo (v :: st) h Q) : Ex l E d M pc lo (.int i :: .ref a :: st) h Q := by
  obtain ⟨c, g1, g2, -⟩ := hW.cell ht
  rw [g2 (fun z => by cases z)] at g1
  exact x_aaload hd g1 ht2 hb.1 rfl hb.2 (by subst hv; exact kk)
theorem c_fiast {a : Nat} {i v : Int32} (hd : decode (mB M) pc = .ok (.iastore, 1)) (ht : tg f a = some (.inr 0)) (hb : inB i (ln f a)) (hz : f.2.2.2 ≤ a) (hW : CW E w s f h) (hF : Frz f0 f) (kk : ∀ h, CW E w s (fset f a i.toNatClampNeg (.int v)) h → Frz f0 (fset f a i.toNatClampNeg (.int v)) → Ex l E d M (pc + 1) lo st h Q) : Ex l E d M pc lo (.int v :: .int i :: .ref a :: st) h Q := by
  obtain ⟨c, g1, -, -⟩ := hW.cell ht
  exact x_iastore hd g1 (Nat.le_trans hW.cb0 hz) hb.1 rfl hb.2 (kk _ (hW.fput ht hz g1 (fun z => by cases z)) (hF.trans (Frz.set hz)))
theorem c_flast {a : Nat} {i : Int32} {v : Int64} (hd : decode (mB M) pc = .ok (.lastore, 1)) (ht : tg f a = some (.inr 1)) (hb : inB i (ln f a)) (hz : f.2.2.2 ≤ a) (hW : CW E w s f h) (hF : Frz f0 f) (kk : ∀ h, CW E w s (fset f a i.toNatClampNeg (.long v)) h → Frz f0 (fset f a i.toNatClampNeg (.long v)) → Ex l E d M (pc + 1) lo st h Q) : Ex l E d M pc lo (.long v :: .int i :: .ref a :: st) h Q := by
  obtain ⟨c, g1, -, -⟩ := hW.cell ht
  exact x_lastore hd g1 (Nat.le_trans hW.cb0 hz) hb.1 rfl hb.2 (kk _ (hW.fput ht hz g1 (fun z => by cases z)) (hF.trans (Frz.set hz)))
theorem c_faast {a t b k : Nat} {i : Int32} {C0 : String} (hd : decode (mB M) pc = .ok (.aastore, 1)) (ht : tg f a = some (.inr t)) (hat : AT t = .object C0) (hv : tg f b = some (.inl k)) (hck : CKy k C0) (hb : inB i (ln f a)) (hz : f.2.2.2 ≤ a) (hW : CW E w s f h) (hF : Frz f0 f) (kk : ∀ h, CW E w s (fset f a i.toNatClampNeg (.ref b)) h → Frz f0 (fset f a i.toNatClampNeg (.ref b)) → Ex l E d M (pc + 1) lo st h Q) : Ex l E d M pc lo (.ref b :: .int i :: .ref a :: st) h Q := by
  obtain ⟨c, g1, -, -⟩ := hW.cell ht
  obtain ⟨c2, g2, -, -⟩ := hW.cell hv
  exact x_aastore hd g1 (Nat.le_trans hW.cb0 hz) hat g2 hck hb.1 rfl hb.2 (kk _ (hW.fput ht hz g1 (fun z => by cases z)) (hF.trans (Frz.set hz)))
theorem c_faastA {a b : Nat} {i : Int32} (hd : decode (mB M) pc = .ok (.aastore, 1)) (ht : tg f a = some (.inr 11)) (hv : tg f b = some (.inr 0)) (hzb : ez E ≤ b) (hb : inB i (ln f a)) (hz : f.2.2.2 ≤ a) (hW : CW E w s f h) (hF : Frz f0 f) (kk : ∀ h, CW E w s (fset f a i.toNatClampNeg (.ref b)) h → Frz f0 (fset f a i.toNatClampNeg (.ref b)) → Ex l E d M (pc + 1) lo st h Q) : Ex l E d M pc lo (.ref b :: .int i :: .ref a :: st) h Q := by
  obtain ⟨c, g1, -, -⟩ := hW.cell ht
  obtain ⟨c2, g2, -, -⟩ := hW.cell hv
  exact x_aastoreA hd g1 (Nat.le_trans hW.cb0 hz) g2 hzb hb.1 rfl hb.2 (kk _ (hW.fput ht hz g1 (fun z => by cases z)) (hF.trans (Frz.set hz)))
theorem c_new {k idx : Nat} (hd : decode (mB M) pc = .ok (.new idx, 3)) (hk : k < NK) (h30 : k = 30 → defaultValue (FY 205) = .null ∧ defaultValue (FY 204) = .null) (hcl : Cond.classLink (mY M).cls idx (CN k) ∈ lw_all) (hin : Cond.initialized (CN k) ∈ lw_all) (hr : rmF E f 1 (CZ k)) (hW : CW E w s f h) (hF : Frz f0 f)
    (kk : ∀ h, CW E w s (fnew f k) h → Frz f0 (fnew f k) → Ex l E d M (pc + 3) lo (.ref f.1 :: st) h Q) : Ex l E d M pc lo st h Q := by
  have e := hW.sz
  refine x_new hd hk hcl hin (hW.room hr).1 (hW.room hr).2 ?_
  rw [e]
  exact kk _ (hW.push _ _ (fun z => by cases z) (fun z => h30 (by cases z; rfl))) (hF.trans (Frz.push hW.cb1 _ _))
theorem c_newarray {at0 : ArrayType} {t : Nat} {n : Int32} (hd : decode (mB M) pc = .ok (.newarray at0, 2)) (ht : t < 4) (hat : newarray.typeOf at0 = AT t) (hn : ¬ n < 0) (hb : n.toNatClampNeg ≤ 60000000) (hr : rmF E f 1 n.toNatClampNeg) (hW : CW E w s f h) (hF : Frz f0 f)
    (kk : ∀ h, CW E w s (fnewA f t n.toNatClampNeg) h → Frz f0 (fnewA f t n.toNatClampNeg) → Ex l E d M (pc + 2) lo (.ref f.1 :: st) h Q) : Ex l E d M pc lo (.int n :: st) h Q := by
  have e := hW.sz
  refine x_newarray hd ht hat hn rfl hb (hW.room hr).1 (hW.room hr).2 ?_
  rw [e]
  exact kk _ (hW.push _ _ (fun z => by cases z; omega) (fun z => by cases z)) (hF.trans (Frz.push hW.cb1 _ _))
theorem c_anewarray {idx t : Nat} {n : Int32} (hd : decode (mB M) pc = .ok (.anewarray idx, 3)) (ht : t < NA) (h9 : t ≠ 9) (h4 : 4 ≤ t) (hdv : defaultValue (AT t) = .null) (hov : Cond.arrayOver (AT t) ∈ lw_tbl)
    (hcl : (∃ C, AT t = .object C ∧ Cond.classLink (mY M).cls idx C ∈ lw_all) ∨ (∃ t0, AT t = .array t0 ∧ Cond.classLink (mY M).cls idx (FieldType.array t0).toString ∈ lw_all)) (hn : ¬ n < 0) (hb : n.toNatClampNeg ≤ 60000000) (hr : rmF E f 1 n.toNatClampNeg) (hW : CW E w s f h) (hF : Frz f0 f)
    (kk : ∀ h, CW E w s (fnewA f t n.toNatClampNeg) h → Frz f0 (fnewA f t n.toNatClampNeg) → Ex l E d M (pc + 3) lo (.ref f.1 :: st) h Q) : Ex l E d M pc lo (.int n :: st) h Q := by
  have e := hW.sz
  refine x_anewarray hd ht hov hcl hn rfl hb (hW.room hr).1 (hW.room hr).2 ?_
  rw [e]
  have := kk _ (hW.push _ _ (fun z => by cases z; exact h9 rfl) (fun z => by cases z)) (hF.trans (Frz.push hW.cb1 (.inr t, n.toNatClampNeg, fun _ => defaultValue (AT t)) n.toNatClampNeg))
  rw [hdv] at this
  exact this
/-! exceptions -/
theorem xA.cell (hW : CW E w s f h) {k a : Nat} (hx : xA w h k a) : ∃ n c, h.2.2 a = some (.inl k, n, c) := by
  rcases hx with ⟨rfl, rfl⟩ | ⟨rfl, rfl⟩ | ⟨-, c, hc⟩
  · obtain ⟨-, -, c, g, -⟩ := hW.ob 9 (by decide); exact ⟨_, _, g⟩
  · obtain ⟨-, -, c, g, -⟩ := hW.ob 1 (by decide); exact ⟨_, _, g⟩
  · exact ⟨_, _, hc⟩
theorem c_out {Q : KO → CS → RH → Prop} {k a : Nat} (hr : hsr (mY M).cls pc k (mH M) none) (hW : CW E w s f h) (hx : xA w h k a) (hF : Frz f0 f) (hq : Q (.inr k) s f) : ExT l E d M pc lo st a h (PoC E w f0 Q) := by
  obtain ⟨n, c, hc⟩ := hx.cell hW
  exact xt_out hc hr ⟨s, f, hW, hF, Or.inr ⟨k, a, rfl, hx, hq⟩⟩
theorem c_catch {k a hp : Nat} (hr : hsr (mY M).cls pc k (mH M) (some hp)) (hW : CW E w s f h) (hx : xA w h k a) (kk : Ex l E d M hp lo [.ref a] h Q) : ExT l E d M pc lo st a h Q := by
  obtain ⟨n, c, hc⟩ := hx.cell hW
  exact xt_catch hc hr kk
theorem xA.mk (k : Nat) (hk : k = 35 ∨ k = 36 ∨ k = 37) (h : CH) : xA w (hexc h k) k (h.1 + 2) := Or.inr (Or.inr ⟨hk, _, if_pos rfl⟩)
theorem hsr_skip {own : String} {pc k s e hp ct : Nat} {t : List (Nat × Nat × Nat × Nat)} {res : Option Nat} (h : ¬ (s ≤ pc ∧ pc < e)) (k1 : hsr own pc k t res) : hsr own pc k ((s, e, hp, ct) :: t) res := by
  unfold hsr; rw [if_neg h]; exact k1
theorem hsr_yes {own : String} {pc k s e hp ct : Nat} {nm : String} {t : List (Nat × Nat × Nat × Nat)} (h : s ≤ pc ∧ pc < e) (h0 : ct ≠ 0) (h1 : Cond.classLink own ct nm ∈ lw_all) (h2 : CKy k nm) : hsr own pc k ((s, e, hp, ct) :: t) (some hp) := by
  unfold hsr; rw [if_pos h]; exact ⟨h0, nm, h1, Or.inl ⟨h2, rfl⟩⟩
theorem hsr_no {own : String} {pc k s e hp ct : Nat} {nm : String} {t : List (Nat × Nat × Nat × Nat)} {res : Option Nat} (h : s ≤ pc ∧ pc < e) (h0 : ct ≠ 0) (h1 : Cond.classLink own ct nm ∈ lw_all) (h2 : (CN k, nm) ∈ NCL) (k1 : hsr own pc k t res) : hsr own pc k ((s, e, hp, ct) :: t) res := by
  unfold hsr; rw [if_pos h]; exact ⟨h0, nm, h1, Or.inr ⟨h2, k1⟩⟩
end CC
/-- a virtual call; the class that the call names is no interface by sameMethod -/
theorem x_invW {l : Launch} {E : EN} {d : Nat} {M : MR} {pc : Nat} {lo : LO} {st : List Value} {h : CH} {Q Q' : Outcome → CH → Prop} {M' : MR} {y : MethodName} {idx n b k nb : Nat} {f : Nat → Value} {vs stk : List Value} (hd : decode (mB M) pc = .ok (.invokevirtual idx, 3)) (hM : OKm M' n) (hin : Cond.instanceMethod (mY M') ∈ lw_all) (hq : Cond.methodLink (mY M).cls idx y ∈ lw_all) (hb : h.2.2 b = some (.inl k, nb, f)) (hsel : Cond.selects (CN k) y (mY M') ∈ lw_all)
    (hy : y = mY M' ∨ ((Cond.declares y ∈ lw_tbl ∨ Cond.instanceMethod y ∈ lw_all) ∧ (y.cls ≠ "java/lang/invoke/MethodHandle" ∧ y.cls ≠ "java/lang/invoke/VarHandle") ∧ (parseMethodDescriptor y.desc).map (fun d => d.parameters.length) = some n ∧ (∃ o n d, Cond.sameMethod y.cls o n d ∈ lw_all) ∧ (Cond.instanceMethod y ∈ lw_all → ∃ M0 : MR, mY M0 = y ∧ mW M0 ∈ lw_all)))
    (hv : vs.length = n) (hs : stk = vs.reverse ++ .ref b :: st) (hw : (st.map fun v => v.category).sum ≤ 20) (hLm : lo.length = mL M)
    (hE : Ev l E d M' (.ref b :: vs) h Q') (kr : ∀ v h', Q' (.returned v) h' → Ex l E (d + 1) M (pc + 3) lo (v.toList ++ st) h' Q) (kt : ∀ a h', Q' (.threw a) h' → ExT l E (d + 1) M pc lo st a h' Q) : Ex l E (d + 1) M pc lo stk h Q := by
  intro p e R s m args below meth c u C ls H locs cells slots hL hC T hT X
  have K := C.2.2.2.2.2.2.2.2.1
  have hown := C.2.2.2.2.2.1
  obtain ⟨cellB, hcB, hkN, hclB, -, hstB, -⟩ := hC.1.2 b _ hb
  have hfcB : s.vm.findClass (CN k) = some cellB.cls := by rw [hclB]; exact (K.2.2.1 k hkN).1
  obtain ⟨mk, methM, hnamed, hmethM, hstM, habM⟩ := Cond.instanceMethod_spec (K.word (args := args) hin)
  obtain ⟨methM', cM, hmethM', -, -, -, -, -, -, hsigM⟩ := mW_spec (K.word (args := args) hM.1) hnamed
  cases hmethM.symm.trans hmethM'
  obtain ⟨c2, r2, m2, q1, q2, q3, q4, kP, hkP, hkPi⟩ := Cond.selects_spec (K.word (args := args) hsel)
  cases hfcB.symm.trans q1
  cases hnamed.symm.trans q3
  have hcT : T.heap[b]? = some cellB := by rw [hT]; exact hcB
  have hns : ∀ z, cellB.vm ≠ .statics z := VmData.ne_statics_of hstB
  rcases hy with rfl | ⟨hdecl, hmh, hlen, ⟨so, sn, sd, hsup⟩, hcd⟩
  · cases (State.methodFound?_of_named hnamed hM.2.2.2.1).symm.trans q2
    have hselP : selectMethod e.platform s.vm cellB.cls mk = .method mk := by rw [Launch.admits_selectMethod X.admits]; exact q4
    obtain ⟨vm₁, X₁, hstep₁⟩ := X.invokevirtual C.1 hown (K.word hq) hnamed hmethM hstM hkP hkPi hM.2.2.2.1 (a := b) (cell := cellB) hcT hns hselP hmethM habM hkP hkPi (g := F0 m pc ls stk) rfl (argsL := vs) (rest := st) (len_of hM.2.2.2.2 hv _ hsigM) hs (by rw [C.2.1]; exact hd)
    exact invEnd (vs := .ref b :: vs) C hL hLm hC hT hd hw X₁ (X₁.named hnamed) hstep₁ hE hM kr kt
  · have hdec : ∃ r0 r, s.methodNamed? y = some r0 ∧ s.vm.method? r0 = some r ∧ r.isStatic = false ∧ parseMethodDescriptor y.desc = some r.sig := by
      rcases hdecl with h1 | h1
      · exact Cond.declares_spec (K.nest (args := args) h1 rfl rfl)
      · obtain ⟨r0, r, i1, i2, i3, -⟩ := Cond.instanceMethod_spec (K.word (args := args) h1)
        obtain ⟨M0, e0, hM0⟩ := hcd h1
        obtain ⟨r', c', j1, -, -, -, -, -, -, j2⟩ := mW_spec (K.word (args := args) hM0) (by rw [e0]; exact i1)
        cases i2.symm.trans j1
        exact ⟨r0, r, i1, i2, i3, by rw [← e0]; exact j2⟩
    obtain ⟨r0, r, hn0, hrm, hstR, hsigR⟩ := hdec
    obtain ⟨cr0, kr0, hcr, hkr, hni⟩ := Cond.sameMethod_class (K.word (args := args) hsup)
    cases (findClass_of_methodNamed hn0).symm.trans hcr
    cases (State.methodFound?_of_named hn0 hmh).symm.trans q2
    have hselP : selectMethod e.platform s.vm cellB.cls r2 = .method mk := by rw [Launch.admits_selectMethod X.admits]; exact q4
    obtain ⟨vm₁, X₁, hstep₁⟩ := X.invokevirtual C.1 hown (K.word hq) hn0 hrm hstR hkr hni hmh (a := b) (cell := cellB) hcT hns hselP hmethM habM hkP hkPi (g := F0 m pc ls stk) rfl (argsL := vs) (rest := st) (len_of hlen hv _ hsigR) hs (by rw [C.2.1]; exact hd)
    exact invEnd (vs := .ref b :: vs) C hL hLm hC hT hd hw X₁ (X₁.named hnamed) hstep₁ hE hM kr kt
section CI
variable {l : Launch} {E : EN} {w : CO} {d : Nat} {M : MR} {pc : Nat} {lo : LO} {st : List Value} {s : CS} {f f0 : RH} {h : CH} {Q : Outcome → CH → Prop} {P : KO → CS → RH → Prop}
theorem c_invS {M' : MR} {idx n : Nat} {vs stk : List Value} (hd : decode (mB M) pc = .ok (.invokestatic idx, 3)) (hM : OKm M' n) (hst : Cond.static (mY M') ∈ lw_all) (hq : Cond.methodLink (mY M).cls idx (mY M') ∈ lw_all ∨ ∃ host, Cond.methodLinkNest (mY M).cls idx (mY M') host ∈ lw_tbl) (hv : vs.length = n) (hs : stk = vs.reverse ++ st) (hw : (st.map fun v => v.category).sum ≤ 20) (hLm : lo.length = mL M)
    (hW : CW E w s f h) (hF : Frz f0 f) (hE : EvC l E w d M' vs s f P) (kr : ∀ r s' f', P (.inl r) s' f' → ∀ h, CW E w s' f' h → Frz f0 f' → Ex l E (d + 1) M (pc + 3) lo (r.toList ++ st) h Q) (kt : ∀ k s' f', P (.inr k) s' f' → ∀ h a, CW E w s' f' h → xA w h k a → Frz f0 f' → ExT l E (d + 1) M pc lo st a h Q) : Ex l E (d + 1) M pc lo stk h Q := by
  refine x_invS hd hM hst hq hv hs hw hLm (hE h hW) ?_ ?_
  · rintro v h' ⟨s', f', g1, g2, ⟨r, e, q⟩ | ⟨k, a, e, q⟩⟩
    · cases e; exact kr _ s' f' q h' g1 (hF.trans g2)
    · cases e
  · rintro a h' ⟨s', f', g1, g2, ⟨r, e, q⟩ | ⟨k, a', e, q1, q2⟩⟩
    · cases e
    · cases e; exact kt k s' f' q2 h' a g1 q1 (hF.trans g2)
theorem c_invI {M' : MR} {idx n b : Nat} {vs stk : List Value} (hd : decode (mB M) pc = .ok (.invokespecial idx, 3)) (hM : OKm M' n) (hnm : (mY M').name = "<init>") (hH : mH M' = []) (hR : mR M' = none) (hin : Cond.instanceMethod (mY M') ∈ lw_all) (hq : Cond.methodLink (mY M).cls idx (mY M') ∈ lw_all ∨ ∃ host, Cond.methodLinkNest (mY M).cls idx (mY M') host ∈ lw_tbl)
    (hv : vs.length = n) (hs : stk = vs.reverse ++ .ref b :: st) (hw : (st.map fun v => v.category).sum ≤ 20) (hLm : lo.length = mL M)
    (hW : CW E w s f h) (hF : Frz f0 f) (hE : EvC l E w d M' (.ref b :: vs) s f P) (kr : ∀ r s' f', P (.inl r) s' f' → ∀ h, CW E w s' f' h → Frz f0 f' → Ex l E (d + 1) M (pc + 3) lo (r.toList ++ st) h Q) (kt : ∀ k s' f', P (.inr k) s' f' → ∀ h a, CW E w s' f' h → xA w h k a → Frz f0 f' → ExT l E (d + 1) M pc lo st a h Q) : Ex l E (d + 1) M pc lo stk h Q := by
  refine x_invI hd hM hnm hH hR hin hq hv hs hw hLm (hE h hW) ?_ ?_
  · rintro v h' ⟨s', f', g1, g2, ⟨r, e, q⟩ | ⟨k, a, e, q⟩⟩
    · cases e; exact kr _ s' f' q h' g1 (hF.trans g2)
    · cases e
  · rintro a h' ⟨s', f', g1, g2, ⟨r, e, q⟩ | ⟨k, a', e, q1, q2⟩⟩
    · cases e
    · cases e; exact kt k s' f' q2 h' a g1 q1 (hF.trans g2)
theorem c_invV {M' : MR} {y : MethodName} {idx n b k nb : Nat} {c : Nat → Value} {vs stk : List Value} (hd : decode (mB M) pc = .ok (.invokevirtual idx, 3)) (hM : OKm M' n) (hin : Cond.instanceMethod (mY M') ∈ lw_all) (hq : Cond.methodLink (mY M).cls idx y ∈ lw_all) (hb : h.2.2 b = some (.inl k, nb, c)) (hsel : Cond.selects (CN k) y (mY M') ∈ lw_all)
    (hy : y = mY M' ∨ ((Cond.declares y ∈ lw_tbl ∨ Cond.instanceMethod y ∈ lw_all) ∧ (y.cls ≠ "java/lang/invoke/MethodHandle" ∧ y.cls ≠ "java/lang/invoke/VarHandle") ∧ (parseMethodDescriptor y.desc).map (fun d => d.parameters.length) = some n ∧ (∃ o n d, Cond.sameMethod y.cls o n d ∈ lw_all) ∧ (Cond.instanceMethod y ∈ lw_all → ∃ M0 : MR, mY M0 = y ∧ mW M0 ∈ lw_all)))
    (hv : vs.length = n) (hs : stk = vs.reverse ++ .ref b :: st) (hw : (st.map fun v => v.category).sum ≤ 20) (hLm : lo.length = mL M)
    (hW : CW E w s f h) (hF : Frz f0 f) (hE : EvC l E w d M' (.ref b :: vs) s f P) (kr : ∀ r s' f', P (.inl r) s' f' → ∀ h, CW E w s' f' h → Frz f0 f' → Ex l E (d + 1) M (pc + 3) lo (r.toList ++ st) h Q) (kt : ∀ k s' f', P (.inr k) s' f' → ∀ h a, CW E w s' f' h → xA w h k a → Frz f0 f' → ExT l E (d + 1) M pc lo st a h Q) : Ex l E (d + 1) M pc lo stk h Q := by
  refine x_invW hd hM hin hq hb hsel hy hv hs hw hLm (hE h hW) ?_ ?_
  · rintro v h' ⟨s', f', g1, g2, ⟨r, e, q⟩ | ⟨k, a, e, q⟩⟩
    · cases e; exact kr _ s' f' q h' g1 (hF.trans g2)
    · cases e
  · rintro a h' ⟨s', f', g1, g2, ⟨r, e, q⟩ | ⟨k, a', e, q1, q2⟩⟩
    · cases e
    · cases e; exact kt k s' f' q2 h' a g1 q1 (hF.trans g2)
end CI
