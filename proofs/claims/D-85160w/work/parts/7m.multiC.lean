/-! anewarray with a negative length and multianewarray over the component's world -/
def fmu (f : RH) (n w : Nat) : Nat → RH
  | 0 => fnewA f 11 n
  | k + 1 => fset (fnewA (fmu f n w k) 0 w) f.1 k (.ref (f.1 + 1 + k))
theorem hmc_at (a i : Nat) : ∀ k, hmc a k i = if i < k then .ref (a + 1 + i) else .null
  | 0 => rfl
  | k + 1 => by
    show (if i = k then Value.ref (a + 1 + k) else hmc a k i) = _
    rw [hmc_at a i k]
    by_cases h1 : i = k
    · rw [if_pos h1, if_pos (by omega), h1]
    · rw [if_neg h1]
      by_cases h2 : i < k
      · rw [if_pos h2, if_pos (by omega)]
      · rw [if_neg h2, if_neg (by omega)]
theorem fmu_sz (f : RH) (n w : Nat) : ∀ k, (fmu f n w k).1 = f.1 + 1 + k ∧ (fmu f n w k).2.1 = f.2.1 + (n + 1) + k * (w + 1) ∧ (fmu f n w k).2.2.2 = f.2.2.2 ∧ (fmu f n w k).2.2.1 f.1 = some (.inr 11, n, hmc f.1 k) ∧ (∀ b, b < f.1 → (fmu f n w k).2.2.1 b = f.2.2.1 b) ∧ (∀ i, i < k → (fmu f n w k).2.2.1 (f.1 + 1 + i) = some (.inr 0, w, fun _ => .int 0))
  | 0 => ⟨rfl, by show f.2.1 + (n + 1) = _; omega, rfl, by show (if f.1 = f.1 then _ else _) = _; rw [if_pos rfl]; rfl, fun b hb => if_neg (by omega), fun i hi => by omega⟩
  | k + 1 => by
    obtain ⟨h1, h2, h3, h4, h5, h6⟩ := fmu_sz f n w k
    have hF : ∀ b, b ≠ f.1 → (fmu f n w (k + 1)).2.2.1 b = if b = f.1 + 1 + k then some (.inr 0, w, fun _ => .int 0) else (fmu f n w k).2.2.1 b := fun b hb => by
      show (if b = f.1 then _ else (if b = (fmu f n w k).1 then _ else _)) = _
      rw [if_neg hb, h1]; rfl
    refine ⟨?_, ?_, h3, ?_, fun b hb => ?_, fun i hi => ?_⟩
    · show (fmu f n w k).1 + 1 = _; omega
    · show (fmu f n w k).2.1 + (w + 1) = _
      rw [h2, Nat.succ_mul]; omega
    · show (if f.1 = f.1 then ((if f.1 = (fmu f n w k).1 then _ else (fmu f n w k).2.2.1 f.1) : Option _).map _ else _) = _
      rw [if_pos rfl, if_neg (by omega), h4]; rfl
    · rw [hF b (by omega), if_neg (by omega)]; exact h5 b hb
    · rw [hF _ (by omega)]
      by_cases hk : i = k
      · rw [if_pos (by omega)]
      · rw [if_neg (by omega)]; exact h6 i (by omega)
theorem fmu_cw {E : EN} {w : CO} {s : CS} {f : RH} {h : CH} (hW : CW E w s f h) (n wd : Nat) : ∀ k, CW E w s (fmu f n wd k) (hmu h n wd k) ∧ (hmu h n wd k).2.2 h.1 = some (.inr 11, n, hmc h.1 k)
  | 0 => ⟨hW.push (.inr 11, n, fun _ => .null) n (fun z => by cases z) (fun z => by cases z), by show (if h.1 = h.1 then _ else _) = _; rw [if_pos rfl]; rfl⟩
  | k + 1 => by
    obtain ⟨h1, h2⟩ := fmu_cw hW n wd k
    obtain ⟨z1, z2, z3, z4, -, -⟩ := fmu_sz f n wd k
    obtain ⟨y1, -⟩ := hmu_sz h n wd k
    have e : h.1 = f.1 := hW.sz
    have hp := h1.push (.inr 0, wd, fun _ => .int 0) wd (fun z => by cases z) (fun z => by cases z)
    have hF : (fnewA (fmu f n wd k) 0 wd).2.2.1 f.1 = some (.inr 11, n, hmc f.1 k) := by
      show (if f.1 = (fmu f n wd k).1 then _ else _) = _
      rw [if_neg (by omega)]; exact z4
    have hg : (hpush (hmu h n wd k) (.inr 0, wd, fun _ => .int 0) wd).2.2 f.1 = some (.inr 11, n, hmc h.1 k) := by
      show (if f.1 = (hmu h n wd k).1 then _ else _) = _
      rw [if_neg (by omega), ← e]; exact h2
    have ht : tg (fnewA (fmu f n wd k) 0 wd) f.1 = some (.inr 11) := by unfold tg; rw [hF]; rfl
    have hl : ln (fnewA (fmu f n wd k) 0 wd) f.1 = n := by unfold ln; rw [hF]
    have hq := CW.fput (f := fnewA (fmu f n wd k) 0 wd) (v := .ref (f.1 + 1 + k)) (j := k) hp ht (by show (fmu f n wd k).2.2.2 ≤ _; rw [z3]; exact hW.cb1) (by rw [hl]; exact hg) (fun z => by cases z)
    rw [hl] at hq
    refine ⟨?_, ?_⟩
    · show CW E w s (fset (fnewA (fmu f n wd k) 0 wd) f.1 k (.ref (f.1 + 1 + k))) (hset (hpush (hmu h n wd k) (.inr 0, wd, fun _ => .int 0) wd) h.1 (.inr 11, n, vup (hmc h.1 k) k (.ref (h.1 + 1 + k))))
      rw [e] at hq ⊢
      exact hq
    · show (if h.1 = h.1 then _ else _) = _
      rw [if_pos rfl]
theorem Frz.mu {f : RH} (hc : f.2.2.2 ≤ f.1) (n w k : Nat) : Frz f (fmu f n w k) := by
  obtain ⟨z1, z2, z3, -, z5, -⟩ := fmu_sz f n w k
  exact ⟨by omega, by omega, by omega, fun x hx => z5 x (by omega)⟩
section CM
variable {l : Launch} {E : EN} {w : CO} {d : Nat} {M : MR} {pc : Nat} {lo : LO} {st : List Value} {s : CS} {f f0 : RH} {h : CH} {Q : Outcome → CH → Prop}
theorem c_anewarrayX {idx t : Nat} {n : Int32} {C0 : String} (hd : decode (mB M) pc = .ok (.anewarray idx, 3)) (hov : Cond.arrayOver (AT t) ∈ lw_tbl) (e0 : AT t = .object C0) (hcl : Cond.classLink (mY M).cls idx C0 ∈ lw_all) (hn : n < 0) (hr : rmF E f 3 222) (hw : (st.map fun v => v.category).sum ≤ 20) (hLm : lo.length = mL M) (hW : CW E w s f h) (hF : Frz f0 f) (kk : ∀ f1, f1 = fexc f → ∀ h a, CW E w s f1 h → xA w h 37 a → Frz f0 f1 → ExT l E d M pc lo st a h Q) : Ex l E d M pc lo (.int n :: st) h Q := by
  exact x_anewarrayNeg hd hov e0 hcl hn hw hLm (hW.room hr).1 (hW.room hr).2 (kk _ rfl _ _ (hW.exc 37) (xA.mk 37 (Or.inr (Or.inr rfl)) h) (hF.trans (Frz.exc f)))
theorem c_multiG {idx : Nat} {n n2 : Int32} (hd : decode (mB M) pc = .ok (.multianewarray idx 2, 4)) (hq : Cond.classLink (mY M).cls idx "[[I" ∈ lw_all) (hn : ¬ n < 0) (hn2 : ¬ n2 < 0) (hb : n.toNatClampNeg ≤ 1000) (hb2 : n2.toNatClampNeg ≤ 1000) (hr : rmF E f (1 + n.toNatClampNeg) (n.toNatClampNeg + n.toNatClampNeg * n2.toNatClampNeg + n2.toNatClampNeg)) (hW : CW E w s f h) (hF : Frz f0 f)
    (kk : ∀ a f1, a = f.1 → f1 = fmu f n.toNatClampNeg n2.toNatClampNeg n.toNatClampNeg → ∀ h, CW E w s f1 h → Frz f0 f1 → Ex l E d M (pc + 4) lo (.ref a :: st) h Q) : Ex l E d M pc lo (.int n2 :: .int n :: st) h Q := by
  have e := hW.sz
  obtain ⟨r1, r2⟩ := hW.room hr
  refine x_multi hd hq hn rfl hn2 rfl hb hb2 (by omega) (by omega) ?_
  rw [e]
  exact kk _ _ rfl rfl _ (fmu_cw hW _ _ _).1 (hF.trans (Frz.mu hW.cb1 _ _ _))
theorem c_multiX1 {idx : Nat} {n n2 : Int32} (hd : decode (mB M) pc = .ok (.multianewarray idx 2, 4)) (hq : Cond.classLink (mY M).cls idx "[[I" ∈ lw_all) (hn : n < 0) (hr : rmF E f 3 222) (hw : (st.map fun v => v.category).sum ≤ 20) (hLm : lo.length = mL M) (hW : CW E w s f h) (hF : Frz f0 f) (kk : ∀ f1, f1 = fexc f → ∀ h a, CW E w s f1 h → xA w h 37 a → Frz f0 f1 → ExT l E d M pc lo st a h Q) : Ex l E d M pc lo (.int n2 :: .int n :: st) h Q :=
  x_multiNeg1 hd hq hn hw hLm (hW.room hr).1 (hW.room hr).2 (kk _ rfl _ _ (hW.exc 37) (xA.mk 37 (Or.inr (Or.inr rfl)) h) (hF.trans (Frz.exc f)))
theorem c_multiX2 {idx : Nat} {n n2 : Int32} {f1 : RH} (hd : decode (mB M) pc = .ok (.multianewarray idx 2, 4)) (hq : Cond.classLink (mY M).cls idx "[[I" ∈ lw_all) (hn : ¬ n < 0) (hn2 : n2 < 0) (hb : n.toNatClampNeg ≤ 1000) (ef : f1 = fnewA f 11 n.toNatClampNeg) (hr : rmF E f1 3 222) (hw : (st.map fun v => v.category).sum ≤ 20) (hLm : lo.length = mL M) (hW : CW E w s f h) (hF : Frz f0 f) (kk : ∀ f2, f2 = fexc f1 → ∀ h a, CW E w s f2 h → xA w h 37 a → Frz f0 f2 → ExT l E d M pc lo st a h Q) : Ex l E d M pc lo (.int n2 :: .int n :: st) h Q := by
  subst ef
  have hP := hW.push (.inr 11, n.toNatClampNeg, fun _ => .null) n.toNatClampNeg (fun z => by cases z) (fun z => by cases z)
  have r := hP.room hr
  exact x_multiNeg2 hd hq hn rfl hn2 hb hw hLm r.1 r.2 (kk _ rfl _ _ (hP.exc 37) (xA.mk 37 (Or.inr (Or.inr rfl)) _) ((hF.trans (Frz.push hW.cb1 _ _)).trans (Frz.exc _)))
end CM
