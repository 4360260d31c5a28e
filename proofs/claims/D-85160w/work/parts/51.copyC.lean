/-! COPIES IN THE COMPONENT'S WORLD -/
def fcont (f : RH) (a : Nat) (g : Nat → Value) : RH := (f.1, f.2.1, fun b => if b = a then (f.2.2.1 a).map (fun x => (x.1, x.2.1, g)) else f.2.2.1 b, f.2.2.2)
theorem CW.fcont {E : EN} {w : CO} {s : CS} {f : RH} {h : CH} (hW : CW E w s f h) {a t : Nat} {g : Nat → Value} (ht : tg f a = some (.inr t)) (hb : f.2.2.2 ≤ a) : CW E w s (fcont f a g) (hset h a (.inr t, ln f a, g)) := by
  have hs := tg_some ht
  have h9 := (hW.rs a _ hs)
  unfold RC at h9
  rw [if_neg (fun e => by cases e)] at h9
  have fa : (Jvm.Pilot.CTallySlateLaw_law_r2296_e39ef6.fcont f a g).2.2.1 a = some (.inr t, ln f a, g) := by
    show (if a = a then _ else _) = _
    rw [if_pos rfl, hs]; rfl
  have fn : ∀ b, b ≠ a → (Jvm.Pilot.CTallySlateLaw_law_r2296_e39ef6.fcont f a g).2.2.1 b = f.2.2.1 b := fun b hb => if_neg hb
  have hn : ∀ b, b ≠ a → (hset h a (.inr t, ln f a, g)).2.2 b = h.2.2 b := fun b hb => if_neg hb
  have na : ∀ b, f.2.2.1 b = none → b ≠ a := fun b hb e => by rw [e, hs] at hb; cases hb
  have hca : ∀ b va vr, CA E w f h b va vr → CA E w (Jvm.Pilot.CTallySlateLaw_law_r2296_e39ef6.fcont f a g) (hset h a (.inr t, ln f a, g)) b va vr := by
    intro b va vr q
    rcases q with q | ⟨r, n, cr, ta, ca, a1, a2, a3, a4, a5, a6, a7, a8, a9, a10⟩
    · exact Or.inl q
    · refine Or.inr ⟨r, n, cr, ta, ca, a1, a2, a3, by rw [fn r (na r a4)]; exact a4, a5, by rw [hn r (na r a4)]; exact a6, a7, a8, by rw [fn ta (by omega)]; exact a9, fun i hi => ?_⟩
      rcases a10 i hi with q | ⟨x, cx, b1, b2, b3, b4⟩
      · exact Or.inl q
      · exact Or.inr ⟨x, cx, b1, b2, by rw [fn x (by omega)]; exact b3, b4⟩
  have tgE : ∀ b, tg (Jvm.Pilot.CTallySlateLaw_law_r2296_e39ef6.fcont f a g) b = tg f b := fun b => by
    by_cases e : b = a
    · subst e; unfold tg; rw [fa, hs]; rfl
    · unfold tg; rw [fn b e]
  have lnE : ∀ b, ln (Jvm.Pilot.CTallySlateLaw_law_r2296_e39ef6.fcont f a g) b = ln f b := fun b => by
    by_cases e : b = a
    · subst e; unfold ln; rw [fa, hs]
    · unfold ln; rw [fn b e]
  have nt : ∀ b, tg f b = some (.inl 30) → b ≠ a := fun b q e => by rw [e, ht] at q; cases q
  have hco : ucost (Jvm.Pilot.CTallySlateLaw_law_r2296_e39ef6.fcont f a g) (hset h a (.inr t, ln f a, g)) ≤ ucost f h := sumTo_le _ fun b _ => hW.cstLe (fun e => by
      rw [tgE] at e
      have := nt b e
      exact ⟨e, by unfold vl; rw [fn b this], hn b this⟩) (fun b _ => lnE b) (fun r n cr _ hr => hn r (na r hr))
  have hsl := hW.sl
  refine ⟨hW.sz, ⟨Nat.le_trans (by show h.1 + _ + BM ≤ h.1 + _ + BM; omega) hsl.1, Nat.le_trans (by show h.2.1 + _ + BM ≤ h.2.1 + _ + BM; omega) hsl.2⟩, hW.cb0, hW.cb1, fun k hk => ?_, fun q hq => ?_, hW.ad, fun b z hz => ?_, fun b z hz => ?_, fun b z hz => ?_, fun x x' z z' d d' r e1 e2 e3 e4 => ?_⟩
  · obtain ⟨g1, g2, g3⟩ := hW.ob k hk
    rw [fn _ (na _ g2), hn _ (na _ g2)]
    exact ⟨g1, g2, g3⟩
  · obtain ⟨g1, g2, g3⟩ := hW.ar q hq
    rw [fn _ (na _ g2), hn _ (na _ g2)]
    exact ⟨g1, g2, g3⟩
  · obtain ⟨g1, g2, g3⟩ := hW.kp b z hz
    rw [fn _ (na _ g2), hn _ (na _ g2)]
    exact ⟨g1, g2, g3⟩
  · by_cases e : b = a
    · subst e; exact hW.lt b _ h9.1
    · rw [hn b e] at hz; exact hW.lt b z hz
  · by_cases e : b = a
    · subst e
      rw [fa] at hz
      cases hz
      unfold RC
      rw [if_neg (fun e => by cases e)]
      exact ⟨if_pos rfl, h9.2⟩
    · rw [fn b e] at hz
      have hr := hW.rs b z hz
      unfold RC at hr ⊢
      rw [hn b e]
      split
      · rename_i e2
        rw [if_pos e2] at hr
        obtain ⟨c', g1, g2, g4, g3⟩ := hr
        refine ⟨c', g1, g2, ?_, hca _ _ _ g3⟩
        rcases g4 with g4 | ⟨ta, g4, g5⟩
        · exact Or.inl g4
        · exact Or.inr ⟨ta, g4, by rw [tgE]; exact g5⟩
      · rename_i e2
        rw [if_neg e2] at hr
        exact hr
  · intro e5 e6
    have key : ∀ y z, (Jvm.Pilot.CTallySlateLaw_law_r2296_e39ef6.fcont f a g).2.2.1 y = some (.inl 30, z) → y ≠ a := by
      intro y z k1 e
      subst e
      rw [fa] at k1
      cases k1
    have n1 := key x z e1
    have n2 := key x' z' e2
    rw [fn x n1] at e1; rw [fn x' n2] at e2; rw [hn x n1] at e3; rw [hn x' n2] at e4
    exact hW.c1 x x' z z' d d' r e1 e2 e3 e4 e5 e6
/-- so many of one of the ten's arrays come to another place -/
def uC (s : CS) (j j' sp dp n : Nat) : CS := (s.1, s.2.1, fun i k => if i = j' ∧ dp ≤ k ∧ k < dp + n then s.2.2.1 j (sp + (k - dp)) else s.2.2.1 i k, s.2.2.2)
section CX
variable {l : Launch} {E : EN} {w : CO} {d : Nat} {M : MR} {pc : Nat} {lo : LO} {st : List Value} {s : CS} {f f0 : RH} {h : CH} {Q : Outcome → CH → Prop}
theorem c_copyF {a b idx : Nat} {sp dp n : Int32} (hd : decode (mB M) pc = .ok (.invokestatic idx, 3)) (hq : Cond.methodLink (mY M).cls idx arraycopyName ∈ lw_all) (hnat : Cond.native arraycopyName ∈ lw_all) (hst : Cond.static arraycopyName ∈ lw_all) (hin : Cond.initialized "java/lang/System" ∈ lw_all)
    (ha : tg f a = some (.inr 0)) (hb : tg f b = some (.inr 0)) (hz : f.2.2.2 ≤ b) (h1 : ¬ sp < 0) (h2 : ¬ dp < 0) (h3 : ¬ n < 0) (h4 : sp.toNatClampNeg + n.toNatClampNeg ≤ ln f a) (h5 : dp.toNatClampNeg + n.toNatClampNeg ≤ ln f b)
    (hfit : ∀ i, i < n.toNatClampNeg → ∃ x : Int32, vl f a (sp.toNatClampNeg + i) = .int x) (hw : (st.map fun v => v.category).sum ≤ 20) (hLm : lo.length = mL M) (hW : CW E w s f h) (hF : Frz f0 f)
    (kk : ∀ f1, f1 = fcont f b (cpy (vl f a) (vl f b) sp.toNatClampNeg dp.toNatClampNeg n.toNatClampNeg) → ∀ h, CW E w s f1 h → Frz f0 f1 → Ex l E d M (pc + 3) lo st h Q) : Ex l E d M pc lo (.int n :: .int dp :: .ref b :: .int sp :: .ref a :: st) h Q := by
  obtain ⟨c, g1, g2, -⟩ := hW.cell ha
  obtain ⟨c', k1, k2, -⟩ := hW.cell hb
  rw [g2 (fun z => by cases z)] at g1
  rw [k2 (fun z => by cases z)] at k1
  refine x_arraycopy hd hq hnat hst hin g1 k1 (Nat.le_trans hW.cb0 hz) (by decide) h1 h2 h3 h4 h5 (fun i hi => ?_) hw hLm (kk _ rfl _ (hW.fcont hb hz) (hF.trans ⟨Nat.le_refl _, Nat.le_refl _, Nat.le_refl _, fun x hx => if_neg (by omega)⟩))
  obtain ⟨x, hx⟩ := hfit i hi
  rw [hx]
  exact ⟨rfl, fun _ e => by cases e⟩
theorem c_copyS {j j' t n1 n2 idx : Nat} {sp dp n : Int32} (hd : decode (mB M) pc = .ok (.invokestatic idx, 3)) (hq : Cond.methodLink (mY M).cls idx arraycopyName ∈ lw_all) (hnat : Cond.native arraycopyName ∈ lw_all) (hst : Cond.static arraycopyName ∈ lw_all) (hin : Cond.initialized "java/lang/System" ∈ lw_all)
    (ha : cArr j = some (t, n1)) (hb : cArr j' = some (t, n2)) (ht : t < 4) (h1 : ¬ sp < 0) (h2 : ¬ dp < 0) (h3 : ¬ n < 0) (h4 : sp.toNatClampNeg + n.toNatClampNeg ≤ n1) (h5 : dp.toNatClampNeg + n.toNatClampNeg ≤ n2)
    (hfit : ∀ i, i < n.toNatClampNeg → fits (AT t) (.int (s.2.2.1 j (sp.toNatClampNeg + i))) = true) (hw : (st.map fun v => v.category).sum ≤ 20) (hLm : lo.length = mL M) (hW : CW E w s f h)
    (kk : ∀ h, CW E w (uC s j j' sp.toNatClampNeg dp.toNatClampNeg n.toNatClampNeg) f h → Ex l E d M (pc + 3) lo st h Q) : Ex l E d M pc lo (.int n :: .int dp :: .ref (w.2.1 j') :: .int sp :: .ref (w.2.1 j) :: st) h Q := by
  have hma := cArr_mem ha
  have hmb := cArr_mem hb
  obtain ⟨-, -, c, g1, g2⟩ := hW.ar _ hma
  obtain ⟨k0, kf, c', k1, k2⟩ := hW.ar _ hmb
  have hca : ∀ i, i < n1 → c i = .int (s.2.2.1 j i) := fun i hi => by
    rw [g2 i hi]
    show (if t = 4 then _ else _) = _
    rw [if_neg (by omega)]
  have hcb : ∀ i, i < n2 → c' i = .int (s.2.2.1 j' i) := fun i hi => by
    rw [k2 i hi]
    show (if t = 4 then _ else _) = _
    rw [if_neg (by omega)]
  refine x_arraycopy hd hq hnat hst hin g1 k1 k0 ht h1 h2 h3 h4 h5 (fun i hi => ?_) hw hLm (kk _ (hW.upd k1 rfl kf (hW.kNa hmb) (fun e => by cases e; exact absurd ht (by decide)) (fun k' hk' => ?_) (fun q hq => ?_)))
  · rw [hca _ (by omega)]
    exact ⟨hfit i hi, fun _ e => by cases e⟩
  · obtain ⟨-, -, c2, g1, g2⟩ := hW.ob k' hk'
    refine ⟨c2, ?_, fun i hi => by rw [g2 i hi]; rfl⟩
    show (if w.1 k' = w.2.1 j' then _ else _) = _
    rw [if_neg (Ne.symm (hW.oaNe hk' hmb))]; exact g1
  · by_cases e : q.1 = j'
    · have hu := cArr_uniq q hq
      rw [e, hb] at hu
      obtain ⟨a, b, d⟩ := q
      have e : a = j' := e
      subst e
      cases hu
      refine ⟨_, if_pos rfl, fun i hi => ?_⟩
      show cpy c c' _ _ _ i = (if t = 4 then _ else _)
      rw [if_neg (by omega)]
      unfold cpy uC
      by_cases hc : dp.toNatClampNeg ≤ i ∧ i < dp.toNatClampNeg + n.toNatClampNeg
      · rw [if_pos hc]
        simp only [true_and, hc, and_self, if_true]
        exact hca _ (by omega)
      · rw [if_neg hc]
        simp only [true_and, hc, if_false]
        exact hcb i hi
    · obtain ⟨-, -, c2, g1, g2⟩ := hW.ar q hq
      refine ⟨c2, ?_, fun i hi => ?_⟩
      · show (if w.2.1 q.1 = w.2.1 j' then _ else _) = _
        rw [if_neg (fun z => e (hW.ad q hq _ hmb z))]; exact g1
      · rw [g2 i hi]
        unfold cA uC
        simp only [e, false_and, if_false]
theorem c_clone {a idx : Nat} (hd : decode (mB M) pc = .ok (.invokevirtual idx, 3)) (hq : Cond.methodLink (mY M).cls idx ⟨"[I", "clone", "()Ljava/lang/Object;"⟩ ∈ lw_all) (hsame : Cond.sameMethod "[I" "java/lang/Object" "clone" "()Ljava/lang/Object;" ∈ lw_all)
    (hnat : Cond.native ⟨"java/lang/Object", "clone", "()Ljava/lang/Object;"⟩ ∈ lw_all) (hin : Cond.instanceMethod ⟨"java/lang/Object", "clone", "()Ljava/lang/Object;"⟩ ∈ lw_all) (hsel : Cond.selects "[I" ⟨"[I", "clone", "()Ljava/lang/Object;"⟩ ⟨"java/lang/Object", "clone", "()Ljava/lang/Object;"⟩ ∈ lw_all) (hcl : Cond.castable "[I" "java/lang/Cloneable" ∈ lw_tbl)
    (ha : tg f a = some (.inr 0)) (hz : ez E ≤ a) (hfit : ∀ i, i < ln f a → ∃ x : Int32, vl f a i = .int x) (hw : (st.map fun v => v.category).sum ≤ 20) (hLm : lo.length = mL M) (hr : rmF E f 1 (ln f a)) (hW : CW E w s f h) (hF : Frz f0 f)
    (kk : ∀ b f1, b = f.1 → f1 = fpush f (.inr 0, ln f a, vl f a) (ln f a) → ∀ h, CW E w s f1 h → Frz f0 f1 → Ex l E d M (pc + 3) lo (.ref b :: st) h Q) : Ex l E d M pc lo (.ref a :: st) h Q := by
  obtain ⟨c, g1, g2, -⟩ := hW.cell ha
  rw [g2 (fun z => by cases z)] at g1
  have e := hW.sz
  refine x_clone hd hq hsame hnat hin hsel hcl g1 hz rfl (fun i hi => ?_) hw hLm (hW.room hr).1 (hW.room hr).2 ?_
  · obtain ⟨x, hx⟩ := hfit i hi
    rw [hx]; rfl
  · rw [e]
    exact kk _ _ rfl rfl _ (hW.push _ _ (fun z => by cases z) (fun z => by cases z)) (hF.trans (Frz.push hW.cb1 _ _))
end CX
theorem c_castA {l : Launch} {E : EN} {w : CO} {d : Nat} {M : MR} {pc : Nat} {lo : LO} {st : List Value} {s : CS} {f : RH} {h : CH} {Q : Outcome → CH → Prop} {a idx : Nat} (hd : decode (mB M) pc = .ok (.checkcast idx, 3)) (hq : Cond.classLink (mY M).cls idx "[I" ∈ lw_all) (ht : tg f a = some (.inr 0)) (hz : ez E ≤ a) (hW : CW E w s f h) (kk : Ex l E d M (pc + 3) lo (.ref a :: st) h Q) : Ex l E d M pc lo (.ref a :: st) h Q := by
  obtain ⟨c, g, -⟩ := hW.cell ht
  exact x_castA hd hq g hz rfl kk
theorem sm_clone : Cond.sameMethod "[I" "java/lang/Object" "clone" "()Ljava/lang/Object;" ∈ lw_all := by decide +kernel
