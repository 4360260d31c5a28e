/-! TABLE.ROW: the rows that a table makes for itself -/
theorem sumTo_sub {g g' : Nat → Nat} {k d : Nat} : ∀ n, k < n → (∀ a, a < n → a ≠ k → g' a ≤ g a) → g' k + d ≤ g k → sumTo g' n + d ≤ sumTo g n
  | 0, hk, _, _ => absurd hk (Nat.not_lt_zero _)
  | n + 1, hk, h, hd => by
    show sumTo g' n + g' n + d ≤ sumTo g n + g n
    by_cases e : n = k
    · subst e
      have h2 := sumTo_le (g := g) (g' := g') n (fun a ha => h a (Nat.lt_succ_of_lt ha) (Nat.ne_of_lt ha))
      omega
    · have h1 := sumTo_sub (g := g) (g' := g') (k := k) (d := d) n (by omega) (fun a ha => h a (Nat.lt_succ_of_lt ha)) hd
      have := h n (Nat.lt_succ_self n) e
      omega
theorem nulls_all {c : Nat → Value} : ∀ n, nulls c n ≤ n := fun n => by
  unfold nulls
  have := List.length_filter_le (fun i => isN (c i)) (List.range n)
  rw [List.length_range] at this
  exact this
theorem nulls_set {c : Nat → Value} {k a : Nat} : ∀ n, k < n → c k = .null → nulls (vup c k (.ref a)) n + 1 = nulls c n
  | 0, hk, _ => absurd hk (Nat.not_lt_zero _)
  | n + 1, hk, h => by
    unfold nulls
    rw [List.range_succ, List.filter_append, List.filter_append, List.length_append, List.length_append]
    by_cases e : n = k
    · subst e
      have h1 : (List.range n).filter (fun i => isN (vup c n (.ref a) i)) = (List.range n).filter (fun i => isN (c i)) := by
        apply List.filter_congr
        intro i hi
        have hi := List.mem_range.mp hi
        have : vup c n (.ref a) i = c i := if_neg (by omega)
        rw [this]
      have h2 : isN (vup c n (.ref a) n) = false := by
        have : vup c n (.ref a) n = .ref a := if_pos rfl
        rw [this]; rfl
      have h3 : isN (c n) = true := by rw [h]; rfl
      rw [h1]
      simp [h2, h3]
    · have ih := nulls_set (c := c) (k := k) (a := a) n (by omega) h
      unfold nulls at ih
      have h2 : vup c k (.ref a) n = c n := if_neg e
      have h3 : ([n].filter (fun i => isN (vup c k (.ref a) i))) = [n].filter (fun i => isN (c i)) := by
        apply List.filter_congr
        intro i hi
        have : i = n := by simpa using hi
        rw [this, h2]
      rw [h3]
      omega
theorem CA.tag {E : EN} {w : CO} {f : RH} {h : CH} {t : Nat} {va : Value} {r : Nat} (q : CA E w f h t va (.ref r)) : ∃ n cr, h.2.2 r = some (.inr 9, n, cr) ∧ f.2.2.1 r = none := by
  rcases q with q | ⟨r', n, cr, ta, ca, a1, a2, a3, a4, a5, a6, a7⟩
  · cases q
  · cases a1; exact ⟨n, cr, a6, a4⟩
/-- a table's cache is made -/
theorem CW.mkC {E : EN} {w : CO} {s : CS} {f : RH} {h : CH} (hW : CW E w s f h) {t ta n : Nat} {c : Nat → Value} (ht : tg f t = some (.inl 30)) (h0 : ln f t = 0) (hta : vl f t 204 = .ref ta) (hA : tg f ta = some (.inr 11)) (hn : ln f ta = n) (hc : h.2.2 t = some (.inl 30, 0, c)) (hnull : c 205 = .null) :
    CW E w s (f.1 + 1, f.2.1, f.2.2.1, f.1 + 1) (hset (hpush h (.inr 9, n, fun _ => .null) n) t (.inl 30, 0, vup c 205 (.ref h.1))) := by
  have hz := hW.sz
  have hs := tg_some ht
  obtain ⟨fr1, fr2, fr3⟩ := hW.free (Nat.le_refl h.1)
  have tl : t < h.1 := hW.lt _ _ hc
  have hT : (hset (hpush h (.inr 9, n, fun _ => .null) n) t (.inl 30, 0, vup c 205 (.ref h.1))).2.2 t = some (.inl 30, 0, vup c 205 (.ref h.1)) := if_pos rfl
  have hN : (hset (hpush h (.inr 9, n, fun _ => .null) n) t (.inl 30, 0, vup c 205 (.ref h.1))).2.2 h.1 = some (.inr 9, n, fun _ => .null) := by
    show (if h.1 = t then _ else (if h.1 = h.1 then _ else _)) = _
    rw [if_neg (by omega), if_pos rfl]
  have hO : ∀ b, b ≠ t → b < h.1 → (hset (hpush h (.inr 9, n, fun _ => .null) n) t (.inl 30, 0, vup c 205 (.ref h.1))).2.2 b = h.2.2 b := fun b h1 h2 => by
    show (if b = t then _ else (if b = h.1 then _ else _)) = _
    rw [if_neg h1, if_neg (by omega)]
  have ltf : ∀ b x, f.2.2.1 b = some x → b < h.1 := fun b x q => by
    obtain ⟨c, g, -⟩ := (hW.rs b x q).some
    exact hW.lt _ _ g
  have hr := hW.rs t _ hs
  unfold RC at hr
  rw [if_pos rfl] at hr
  obtain ⟨c', k1, k2, k3, k4⟩ := hr
  rw [hc, h0] at k1
  cases k1
  have r9 : ∀ (r n' : Nat) (cr : Nat → Value), h.2.2 r = some (.inr 9, n', cr) → r ≠ t := fun r n' cr q e => by rw [e, hc] at q; cases q
  have hca : ∀ b va vr, CA E w f h b va vr → CA E w (f.1 + 1, f.2.1, f.2.2.1, f.1 + 1) (hset (hpush h (.inr 9, n, fun _ => .null) n) t (.inl 30, 0, vup c 205 (.ref h.1))) b va vr := by
    intro b va vr q
    have hcb := hW.cb1
    rcases q with q | ⟨r, n', cr, ta', ca, a1, a2, a3, a4, a5, a6, a7, a8, a9, a10⟩
    · exact Or.inl q
    · refine Or.inr ⟨r, n', cr, ta', ca, a1, by show b < f.1 + 1; omega, a3, a4, a5, by rw [hO r (r9 r n' cr a6) (hW.lt _ _ a6)]; exact a6, a7, by show ta' < f.1 + 1; omega, a9, fun i hi => ?_⟩
      rcases a10 i hi with q | ⟨x, cx, b1, b2, b3, b4⟩
      · exact Or.inl q
      · exact Or.inr ⟨x, cx, b1, by show x < f.1 + 1; omega, b3, b4⟩
  have hco : ucost (f.1 + 1, f.2.1, f.2.2.1, f.1 + 1) (hset (hpush h (.inr 9, n, fun _ => .null) n) t (.inl 30, 0, vup c 205 (.ref h.1))) + (n + 1) ≤ ucost f h := by
    unfold ucost
    show sumTo _ (f.1 + 1) + (n + 1) ≤ sumTo _ f.1
    rw [sumTo_add 1 f.1 (fun a h1 h2 => by
      have ha : a = h.1 := by omega
      unfold cst
      rw [if_neg]
      intro e
      have : f.2.2.1 a = some _ := tg_some e
      rw [ha, fr1] at this; cases this)]
    refine sumTo_sub (k := t) _ (by omega) (fun a ha hat => hW.cstLe (fun e => ⟨e, rfl, hO a hat (by omega)⟩) (fun _ _ => rfl) (fun r n' cr q _ => hO r (r9 r n' cr q) (hW.lt _ _ q))) ?_
    unfold cst
    rw [if_pos (show tg (f.1 + 1, f.2.1, f.2.2.1, f.1 + 1) t = some (.inl 30) from ht), if_pos ht]
    have e1 : hvl (hset (hpush h (.inr 9, n, fun _ => .null) n) t (.inl 30, 0, vup c 205 (.ref h.1))) t 205 = .ref h.1 := by unfold hvl; rw [hT]; rfl
    have e2 : hvl h t 205 = .null := by unfold hvl; rw [hc]; exact hnull
    have e3 : hln (hset (hpush h (.inr 9, n, fun _ => .null) n) t (.inl 30, 0, vup c 205 (.ref h.1))) h.1 = n := by unfold hln; rw [hN]
    rw [e1, e2, hta]
    show 2 * nulls _ (hln _ h.1) + (n + 1) ≤ 3 * ln f ta + 1
    rw [e3, hn]
    have := nulls_all (c := hvl (hset (hpush h (.inr 9, n, fun _ => .null) n) t (.inl 30, 0, vup c 205 (.ref h.1))) h.1) n
    omega
  have hsl := hW.sl
  have fT : ∀ b, f.2.2.1 b = none → b ≠ t := fun b q e => by rw [e, hs] at q; cases q
  refine ⟨by show h.1 + 1 = f.1 + 1; omega, ⟨by show h.1 + 1 + _ + BM ≤ eLc E + f.2.1; omega, by show h.2.1 + n + _ + BM ≤ eLs E + f.2.1; omega⟩, by have := hW.cb0; have := hW.cb1; show ez E ≤ f.1 + 1; omega, Nat.le_refl _, fun k hk => ?_, fun q hq => ?_, hW.ad, fun b z hz => ?_, fun b z hz => ?_, fun b z hz => ?_, fun x x' z z' d d' r e1 e2 e3 e4 => ?_⟩
  · obtain ⟨g1, g2, c2, g3, g4⟩ := hW.ob k hk
    exact ⟨g1, g2, c2, by rw [hO _ (fT _ g2) (hW.lt _ _ g3)]; exact g3, g4⟩
  · obtain ⟨g1, g2, c2, g3, g4⟩ := hW.ar q hq
    exact ⟨g1, g2, c2, by rw [hO _ (fT _ g2) (hW.lt _ _ g3)]; exact g3, g4⟩
  · obtain ⟨g1, g2, g3⟩ := hW.kp b z hz
    exact ⟨by rw [hO _ (fT _ g2) (hW.lt _ _ g1)]; exact g1, g2, g3⟩
  · show b < h.1 + 1
    by_cases e : b = t
    · omega
    · by_cases e2 : b < h.1
      · omega
      · have hz : (if b = t then _ else (if b = h.1 then _ else h.2.2 b)) = some z := hz
        rw [if_neg e] at hz
        split at hz
        · omega
        · have := hW.lt _ _ hz; omega
  · have hz : f.2.2.1 b = some z := hz
    have hr := hW.rs b z hz
    by_cases e : b = t
    · subst e
      rw [hs] at hz
      cases hz
      unfold RC
      rw [if_pos rfl]
      have hcb := hW.cb1
      refine ⟨vup c 205 (.ref h.1), by rw [h0]; exact hT, k2, k3, Or.inr ⟨h.1, n, fun _ => .null, ta, vl f ta, rfl, by show b < f.1 + 1; omega, by have := hW.cb0; omega, fr1, fr3, hN, hta, ?_, ?_, fun _ _ => Or.inl rfl⟩⟩
      · have := ltf ta _ (tg_some hA)
        show ta < f.1 + 1
        omega
      · have := tg_some hA
        rw [hn] at this
        exact this
    · unfold RC at hr ⊢
      rw [hO b e (ltf b z hz)]
      split
      · rename_i e2
        rw [if_pos e2] at hr
        obtain ⟨c', g1, g2, g4, g3⟩ := hr
        exact ⟨c', g1, g2, g4, hca _ _ _ g3⟩
      · rename_i e2
        rw [if_neg e2] at hr
        exact hr
  · intro e5 e6
    have e1 : f.2.2.1 x = some (.inl 30, z) := e1
    have e2 : f.2.2.1 x' = some (.inl 30, z') := e2
    have key : ∀ y u d, f.2.2.1 y = some (.inl 30, u) → y ≠ t → (hset (hpush h (.inr 9, n, fun _ => .null) n) t (.inl 30, 0, vup c 205 (.ref h.1))).2.2 y = some d → d.2.2 205 = .ref r → r ≠ h.1 := by
      intro y u d q1 q2 q3 q4 e
      rw [hO y q2 (ltf _ _ q1)] at q3
      have hr := hW.rs y _ q1
      unfold RC at hr
      rw [if_pos rfl] at hr
      obtain ⟨c2, g1, -, -, g4⟩ := hr
      rw [q3] at g1
      cases g1
      have q4 : c2 205 = .ref r := q4
      rw [q4] at g4
      obtain ⟨n', cr, g5, -⟩ := g4.tag
      rw [e, fr2] at g5; cases g5
    by_cases x1 : x = t
    · by_cases x2 : x' = t
      · rw [x1, x2]
      · exfalso
        rw [x1, hT] at e3
        cases e3
        have e5 : Value.ref h.1 = .ref r := e5
        cases e5
        exact key x' z' d' e2 x2 e4 e6 rfl
    · by_cases x2 : x' = t
      · exfalso
        rw [x2, hT] at e4
        cases e4
        have e6 : Value.ref h.1 = .ref r := e6
        cases e6
        exact key x z d e1 x1 e3 e5 rfl
      · rw [hO x x1 (ltf _ _ e1)] at e3
        rw [hO x' x2 (ltf _ _ e2)] at e4
        exact hW.c1 x x' z z' d d' r e1 e2 e3 e4 e5 e6
theorem CW.cstLe2 {E : EN} {w : CO} {s : CS} {f f' : RH} {h h' : CH} (hW : CW E w s f h) {a : Nat} (p1 : tg f' a = some (.inl 30) → tg f a = some (.inl 30) ∧ vl f' a 204 = vl f a 204 ∧ h'.2.2 a = h.2.2 a) (p2 : ∀ ta, tg f ta = some (.inr 11) → ln f' ta = ln f ta) (p3 : ∀ r : Nat, tg f a = some (.inl 30) → hvl h a 205 = .ref r → h'.2.2 r = h.2.2 r) : cst f' h' a ≤ cst f h a := by
  unfold cst
  split
  · rename_i e
    obtain ⟨g1, g2, g3⟩ := p1 e
    rw [if_pos g1, g2]
    have e1 : hvl h' a 205 = hvl h a 205 := by unfold hvl; rw [g3]
    rw [e1]
    have hr := hW.rs a _ (tg_some g1)
    unfold RC at hr
    rw [if_pos rfl] at hr
    obtain ⟨c', k1, k2, k3, k4⟩ := hr
    have e2 : hvl h a 205 = c' 205 := by unfold hvl; rw [k1]
    rcases k4 with k4 | ⟨r, n, cr, ta, ca, a1, a2, a3, a4, a5, a6, a7⟩
    · rw [e2, k4]
      rcases k3 with k3 | ⟨ta, k3, k5⟩
      · have k3 : vl f a 204 = .null := k3
        rw [k3]; exact Nat.le_refl _
      · have k3 : vl f a 204 = .ref ta := k3
        rw [k3]
        show 3 * ln f' ta + 1 ≤ 3 * ln f ta + 1
        rw [p2 ta k5]; exact Nat.le_refl _
    · have e3 := p3 r g1 (by rw [e2, a1])
      rw [e2, a1]
      show 2 * nulls (hvl h' r) (hln h' r) ≤ 2 * nulls (hvl h r) (hln h r)
      have e4 : hvl h' r = hvl h r := by funext j; unfold hvl; rw [e3]
      have e5 : hln h' r = hln h r := by unfold hln; rw [e3]
      rw [e4, e5]; exact Nat.le_refl _
  · exact Nat.zero_le _
/-- a row comes into a table's cache -/
theorem CW.fillC {E : EN} {w : CO} {s : CS} {f : RH} {h : CH} (hW : CW E w s f h) {t ta r n k x : Nat} {c cr : Nat → Value} (ht : tg f t = some (.inl 30)) (h0 : ln f t = 0) (hta : vl f t 204 = .ref ta) (hc : h.2.2 t = some (.inl 30, 0, c)) (h205 : c 205 = .ref r) (hr : h.2.2 r = some (.inr 9, n, cr)) (hk : k < n) (hnull : cr k = .null) (hx : tg f x = some (.inl 29)) (hx0 : ln f x = 0) (hxa : vl f x 203 = vl f ta k) (hB : 2 ≤ f.2.1) :
    CW E w s (f.1, f.2.1 - 2, f.2.2.1, f.1) (hset h r (.inr 9, n, vup cr k (.ref x))) := by
  have hz := hW.sz
  have hs := tg_some ht
  have hcb := hW.cb1
  have hrt := hW.rs t _ hs
  unfold RC at hrt
  rw [if_pos rfl] at hrt
  obtain ⟨c', k1, k2, k3, k4⟩ := hrt
  rw [hc, h0] at k1
  cases k1
  rw [h205] at k4
  rcases k4 with k4 | ⟨r', n', cr', ta', ca, a1, a2, a3, a4, a5, a6, a7, a8, a9, a10⟩
  · cases k4
  cases a1
  rw [hr] at a6
  cases a6
  have a7 : vl f t 204 = .ref ta' := a7
  rw [hta] at a7
  cases a7
  have eca : vl f ta = ca := by funext j; unfold vl; rw [a9]
  have hR : (hset h r (.inr 9, n, vup cr k (.ref x))).2.2 r = some (.inr 9, n, vup cr k (.ref x)) := if_pos rfl
  have hO : ∀ b, b ≠ r → (hset h r (.inr 9, n, vup cr k (.ref x))).2.2 b = h.2.2 b := fun b hb => if_neg hb
  have fT : ∀ b, f.2.2.1 b ≠ none → b ≠ r := fun b q e => q (by rw [e]; exact a4)
  have ltf : ∀ b y, f.2.2.1 b = some y → b < h.1 := fun b y q => by
    obtain ⟨c, g, -⟩ := (hW.rs b y q).some
    exact hW.lt _ _ g
  have tne : t ≠ r := fT t (by rw [hs]; exact fun q => by cases q)
  -- another table's cache is another one
  have oth : ∀ b z c2 r2, f.2.2.1 b = some (.inl 30, z) → b ≠ t → h.2.2 b = some c2 → c2.2.2 205 = .ref r2 → r2 ≠ r := fun b z c2 r2 q1 q2 q3 q4 e => q2 (hW.c1 b t z _ c2 _ r q1 hs q3 hc (by rw [q4, e]) h205)
  have hco : ucost (f.1, f.2.1 - 2, f.2.2.1, f.1) (hset h r (.inr 9, n, vup cr k (.ref x))) + 2 ≤ ucost f h := by
    have tl : t < f.1 := by have := ltf t _ hs; omega
    refine sumTo_sub (k := t) _ tl (fun a ha hat => hW.cstLe2 (fun e => ⟨e, rfl, hO a (fT a (by rw [tg_some e]; exact fun q => by cases q))⟩) (fun _ _ => rfl) (fun r2 e q => hO r2 ?_)) ?_
    · obtain ⟨c2, g, -⟩ := (hW.rs a _ (tg_some e)).some
      refine oth a _ _ r2 (tg_some e) hat g ?_
      unfold hvl at q
      rw [g] at q
      exact q
    · unfold cst
      rw [if_pos (show tg (f.1, f.2.1 - 2, f.2.2.1, f.1) t = some (.inl 30) from ht), if_pos ht]
      have e1 : hvl (hset h r (.inr 9, n, vup cr k (.ref x))) t 205 = .ref r := by unfold hvl; rw [hO t tne, hc]; exact h205
      have e2 : hvl h t 205 = .ref r := by unfold hvl; rw [hc]; exact h205
      rw [e1, e2]
      show 2 * nulls (hvl _ r) (hln _ r) + 2 ≤ 2 * nulls (hvl h r) (hln h r)
      have e3 : hvl (hset h r (.inr 9, n, vup cr k (.ref x))) r = vup cr k (.ref x) := by funext j; unfold hvl; rw [hR]
      have e4 : hln (hset h r (.inr 9, n, vup cr k (.ref x))) r = n := by unfold hln; rw [hR]
      have e5 : hvl h r = cr := by funext j; unfold hvl; rw [hr]
      have e6 : hln h r = n := by unfold hln; rw [hr]
      rw [e3, e4, e5, e6]
      have := nulls_set (c := cr) (k := k) (a := x) n hk hnull
      omega
  have hca : ∀ b va r2, r2 ≠ r → CA E w f h b va (.ref r2) → CA E w (f.1, f.2.1 - 2, f.2.2.1, f.1) (hset h r (.inr 9, n, vup cr k (.ref x))) b va (.ref r2) := by
    intro b va r2 hne q
    rcases q with q | ⟨r3, n', cr', ta', ca', b1, b2, b3, b4, b5, b6, b7, b8, b9, b10⟩
    · exact Or.inl q
    · cases b1
      refine Or.inr ⟨r2, n', cr', ta', ca', rfl, by show b < f.1; omega, b3, b4, b5, by rw [hO r2 hne]; exact b6, b7, by show ta' < f.1; omega, b9, fun i hi => ?_⟩
      rcases b10 i hi with q | ⟨y, cy, d1, d2, d3, d4⟩
      · exact Or.inl q
      · exact Or.inr ⟨y, cy, d1, by show y < f.1; omega, d3, d4⟩
  have hsl := hW.sl
  refine ⟨hz, ⟨by show h.1 + _ + BM ≤ eLc E + (f.2.1 - 2); omega, by show h.2.1 + _ + BM ≤ eLs E + (f.2.1 - 2); omega⟩, Nat.le_trans hW.cb0 hcb, Nat.le_refl _, fun k hk => ?_, fun q hq => ?_, hW.ad, fun b z hz => ?_, fun b z hz => ?_, fun b z hz => ?_, fun y y' z z' d d' r2 e1 e2 e3 e4 => ?_⟩
  · obtain ⟨g1, g2, c2, g3, g4⟩ := hW.ob k hk
    exact ⟨g1, g2, c2, by rw [hO _ (fun e => by rw [e, hr] at g3; cases g3)]; exact g3, g4⟩
  · obtain ⟨g1, g2, c2, g3, g4⟩ := hW.ar q hq
    exact ⟨g1, g2, c2, by rw [hO _ (fun e => by rw [e, hr] at g3; exact cArr_t9 q hq (Sum.inr.inj (congrArg (fun x => x.1) (Option.some.inj g3))).symm)]; exact g3, g4⟩
  · obtain ⟨g1, g2, g3⟩ := hW.kp b z hz
    exact ⟨by rw [hO _ (fun e => by rw [e, a5] at hz; cases hz)]; exact g1, g2, g3⟩
  · by_cases e : b = r
    · rw [e]; exact hW.lt _ _ hr
    · rw [hO b e] at hz; exact hW.lt _ _ hz
  · have hz : f.2.2.1 b = some z := hz
    have hrb := hW.rs b z hz
    have hne := fT b (by rw [hz]; exact fun q => by cases q)
    unfold RC at hrb ⊢
    rw [hO b hne]
    split
    · rename_i e2
      rw [if_pos e2] at hrb
      obtain ⟨c2, g1, g2, g4, g3⟩ := hrb
      refine ⟨c2, g1, g2, g4, ?_⟩
      by_cases e : b = t
      · subst e
        rw [hs] at hz
        cases hz
        rw [hc] at g1
        have ec : c2 = c := (congrArg (fun x => x.2.2) (Option.some.inj g1)).symm
        subst ec
        rw [h205]
        have xl := ltf x _ (tg_some hx)
        have hxs := tg_some hx
        rw [hx0] at hxs
        have tal := ltf ta _ a9
        refine Or.inr ⟨r, n, vup cr k (.ref x), ta, ca, rfl, by show b < f.1; omega, a3, a4, a5, hR, hta, by show ta < f.1; omega, a9, fun i hi => ?_⟩
        by_cases ik : i = k
        · subst ik
          exact Or.inr ⟨x, vl f x, if_pos rfl, by show x < f.1; omega, hxs, by rw [hxa, eca]⟩
        · have : vup cr k (.ref x) i = cr i := if_neg ik
          rw [this]
          rcases a10 i hi with q | ⟨y, cy, d1, d2, d3, d4⟩
          · exact Or.inl q
          · exact Or.inr ⟨y, cy, d1, by show y < f.1; omega, d3, d4⟩
      · rcases g3 with g3 | g3
        · exact Or.inl g3
        · obtain ⟨r3, rest⟩ := g3
          obtain ⟨n', cr', ta', ca', b1, b2⟩ := rest
          have hz' : f.2.2.1 b = some (.inl 30, z.2) := by rw [hz, ← e2]
          rw [b1]
          refine hca b _ r3 (oth b _ _ r3 hz' e g1 b1) (Or.inr ⟨r3, n', cr', ta', ca', rfl, b2⟩)
    · rename_i e2
      rw [if_neg e2] at hrb
      exact hrb
  · intro e5 e6
    have e1 : f.2.2.1 y = some (.inl 30, z) := e1
    have e2 : f.2.2.1 y' = some (.inl 30, z') := e2
    rw [hO y (fT y (by rw [e1]; exact fun q => by cases q))] at e3
    rw [hO y' (fT y' (by rw [e2]; exact fun q => by cases q))] at e4
    exact hW.c1 y y' z z' d d' r2 e1 e2 e3 e4 e5 e6
