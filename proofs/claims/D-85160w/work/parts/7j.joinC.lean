/-! THE COMPONENT: join -/
section CJo
variable {l : Launch} {E : EN} {w : CO} {d : Nat} {s : CS} {f : RH} {Q : KO → CS → RH → Prop}
/-- what a side of a join puts into a pack -/
def zjp (x : Th) : List Th := if zk x = 3 then ze x else [x]
def zjt (x : Th) : List (List Int32) := if zk x = 2 then zt x else [zr x]
theorem zjp_w {x : Th} (h : ZW x) : (∀ t ∈ zjp x, ZW t) ∧ (zjp x).length ≤ 20 := by
  unfold zjp
  split
  · rename_i c
    rcases zcases h with ⟨v, rfl⟩ | ⟨a, rfl, z1⟩ | ⟨a, rfl, z1, z2, z3⟩ | ⟨a, rfl, z1, z2, z3, z4⟩
    · cases c
    · cases c
    · cases c
    · rw [zl_zP]; exact ⟨z4, z1⟩
  · exact ⟨fun t ht => by rw [List.mem_singleton.mp ht]; exact h, by show 1 ≤ 20; decide⟩
theorem zjt_w {x : Th} (h : ZW x) : (∀ r ∈ zjt x, r.length ≤ 64) ∧ (zjt x).length ≤ 20 := by
  unfold zjt
  split
  · rename_i c
    rw [zk2 c] at h
    exact ⟨h.2.2, h.1⟩
  · refine ⟨fun r hr => ?_, by show 1 ≤ 20; decide⟩
    rw [List.mem_singleton.mp hr]
    rcases zcases h with ⟨v, rfl⟩ | ⟨a, rfl, z1⟩ | ⟨a, rfl, z1, z2, z3⟩ | ⟨a, rfl, z1, z2, z3, z4⟩
    · exact Nat.zero_le _
    · exact z1
    · exact Nat.zero_le _
    · exact Nat.zero_le _
theorem C_joinPacks (hst : l.stackTraces = false) {n : Nat} {x y : Th} {place : Int32} (hn : n ≤ 8378) (hx : rcV E f (s.2.2.1 24 n) (s.2.2.2 25 n) x) (hy : rcV E f (s.2.2.1 24 (n + 1)) (s.2.2.2 25 (n + 1)) y) (wx : ZW x) (wy : ZW y) (hcb : f.2.2.2 ≤ f.1) (hroom : f.2.1 + 300 ≤ BM) {vx vy : Value} (evx : vx = s.2.2.2 25 n) (evy : vy = s.2.2.2 25 (n + 1))
    (h1 : zgt (zP (zjp x ++ zjp y)) = false → ∀ p f', rcT f'.2.2.1 (ez E) f'.1 true (zP (zjp x ++ zjp y)) (fun _ => .ref p) → Gw f f' (3 * (zjp x ++ zjp y).length + 5) → Q (.inl (some (.ref p))) s f') (h2 : zgt (zP (zjp x ++ zjp y)) = true → ∀ f', Gw f f' 200 → Q (.inr 9) (cwrong s 2 place) f') : EvC l E w (d + 4) MX7_joinPacks [.ref (w.1 7), .int (nI n), vx, vy, .int place] s f Q := by
  obtain ⟨wx1, wx2⟩ := zjp_w wx
  obtain ⟨wy1, wy2⟩ := zjp_w wy
  rw [← evx] at hx
  rw [← evy] at hy
  have hLl : (zjp x ++ zjp y).length = (zjp x).length + (zjp y).length := List.length_append
  have hLw : ∀ t ∈ zjp x ++ zjp y, ZW t := fun t ht => (List.mem_append.mp ht).elim (wx1 t) (wy1 t)
  have hgx : ∀ k, k < (zjp x).length → (zjp x ++ zjp y).getD k (zI 0) = (zjp x).getD k (zI 0) := fun k hk => getD_app1 _ _ hk
  have hgy : ∀ k, (zjp x).length ≤ k → k < (zjp x ++ zjp y).length → (zjp x ++ zjp y).getD k (zI 0) = (zjp y).getD (k - (zjp x).length) (zI 0) := fun k hk _ => by
    have := getD_app2 (zjp x) (zjp y) (zI 0) (k - (zjp x).length)
    rw [Nat.add_sub_cancel' hk] at this
    exact this
  generalize hL : zjp x ++ zjp y = L at *
  generalize hN : L.length = N at *
  have packed : ∀ {z : Th} {vz : Value} {nz : Int32}, ZW z → rcV E f nz vz z → zk z = 3 → ∃ p q : Nat, vz = .ref p ∧ p < f.1 ∧ oc f p 31 ∧ vl f p 206 = .ref q ∧ q < f.1 ∧ tg f q = some (.inr 4) ∧ ln f q = (zjp z).length ∧ ∀ i, i < (zjp z).length → rcT f.2.2.1 (ez E) f.2.2.2 true ((zjp z).getD i (zI 0)) (fun _ => vl f q i) := by
    intro z vz nz wz hz c
    have e : zjp z = ze z := if_pos c
    rcases zcases wz with ⟨v, rfl⟩ | ⟨a, rfl, z1⟩ | ⟨a, rfl, z1, z2, z3⟩ | ⟨a, rfl, z1, z2, z3, z4⟩
    · cases c
    · cases c
    · cases c
    rw [e, zl_zP]
    obtain ⟨p, q, v1, v2, v3, v4, v5, v6, v7, v8, v9, v10⟩ := rcT.pack hz
    exact ⟨p, q, v1, Nat.lt_of_lt_of_le v2 hcb, v3, v4, Nat.lt_of_lt_of_le v5 hcb, v6, v7, v10⟩
  have loop : ∀ fk, PB E f N (L.take 0) (N + 1 + 2 * 0) fk → ExC l E w (d + 4) MX7_joinPacks 43 [some (.ref (w.1 7)), some (.int (nI n)), some vx, some vy, some (.int place), some (.int (nI (zjp x).length)), some (.ref f.1), some (.int (nI 0)), none, none] [] s fk Q := by
    refine dn (P := fun k => ∀ fk, PB E f N (L.take k) (N + 1 + 2 * k) fk → ExC l E w (d + 4) MX7_joinPacks 43 [some (.ref (w.1 7)), some (.int (nI n)), some vx, some vy, some (.int place), some (.int (nI (zjp x).length)), some (.ref f.1), some (.int (nI k)), none, none] [] s fk Q) N ?_ (fun k hk ih => ?_)
    · intro fk hB
      rw [List.take_of_length_le (by omega)] at hB
      obtain ⟨b1, b2, b3, b4, b5⟩ := hB
      have hbud := b1.2.2.1
      refine vX7_joinPacks_43 hx.isR hy.isR ⟨4, b3, ?_⟩
      rw [b4]
      refine pk_le N N (fun _ => ?_) (fun c => by omega) rfl rfl
      exact C_pack hst b3 (b4.trans hN.symm) b2 (fun i hi => (b5 i hi).rep b1 hcb) hLw (by omega) (by omega) (by have := b1.1; rw [b1.2.1]; omega) (fun hz1 f' q1 q2 => ⟨_, rfl, h1 hz1 _ f' q1 ((b1.trans q2).le (by omega))⟩) (fun hz1 f' q2 => h2 hz1 f' ((b1.trans q2).le (by omega)))
    · intro fk hB
      have g := hB.1
      have hbud := g.2.2.1
      have hll : (L.take k).length = k := by rw [List.length_take]; omega
      have hts := take_succ_getD L (zI 0) k (by omega)
      have hxk := hx.gw g hcb
      have hyk := hy.gw g hcb
      have x3 := hxk.isRow 3 (by decide) (by decide)
      have y3 := hyk.isRow 3 (by decide) (by decide)
      /- an old thing -/
      have old : ∀ r, PE E f fk (.ref r) (L.getD k (zI 0)) → ∃ k40 : Nat, tg fk f.1 = some (.inr 4) ∧ tg fk r = some (.inl k40) ∧ k40 ∈ CKs 4 ∧ inB (nI k) N ∧ fk.2.2.2 ≤ f.1 ∧ ∀ f39 : RH, f39 = fset fk f.1 k (.ref r) → ExC l E w (d + 4) MX7_joinPacks 43 [some (.ref (w.1 7)), some (.int (nI n)), some vx, some vy, some (.int place), some (.int (nI (zjp x).length)), some (.ref f.1), some (.int (nI k + 1)), none, none] [] s f39 Q := by
        intro r hpe
        obtain ⟨kk, t1, t2⟩ := hpe.tag g hcb
        refine ⟨kk, hB.2.2.1, t1, t2, inB_n hk, by rw [g.2.1]; exact hcb, fun f39 e => ?_⟩
        have := hB.put hpe
        rw [hll, ← hts] at this
        rw [e, nI_1]
        exact ih _ (this.le (by omega))
      have new : ∀ p f', PE E f f' (.ref p) (L.getD k (zI 0)) → Gw fk f' 2 → ∃ a43 : Nat, some (Value.ref p) = some (.ref a43) ∧ ∃ k45 : Nat, tg f' f.1 = some (.inr 4) ∧ tg f' a43 = some (.inl k45) ∧ k45 ∈ CKs 4 ∧ inB (nI k) (ln f' f.1) ∧ f'.2.2.2 ≤ f.1 ∧ ∀ f44 : RH, f44 = fset f' f.1 k (.ref a43) → ExC l E w (d + 4) MX7_joinPacks 43 [some (.ref (w.1 7)), some (.int (nI n)), some vx, some vy, some (.int place), some (.int (nI (zjp x).length)), some (.ref f.1), some (.int (nI k + 1)), none, none] [] s f44 Q := by
        intro p f' hpe hg2
        have hB2 := hB.grow hg2
        obtain ⟨kk, t1, t2⟩ := hpe.tag hB2.1 hcb
        refine ⟨p, rfl, kk, hB2.2.2.1, t1, t2, by rw [hB2.2.2.2.1]; exact inB_n hk, by rw [hB2.1.2.1]; exact hcb, fun f44 e => ?_⟩
        have := hB2.put hpe
        rw [hll, ← hts] at this
        rw [e, nI_1]
        exact ih _ (this.le (by omega))
      refine vX7_joinPacks_43 hx.isR hy.isR ⟨4, hB.2.2.1, ?_⟩
      rw [hB.2.2.2.1]
      refine pk_le N k (fun c => by omega) (fun _ => ?_) rfl rfl
      rw [nI_clamp (n := k) (by omega)]
      refine pk_le (zjp x).length k (fun c => ⟨hyk.isT, ?_⟩) (fun c => ⟨hxk.isT, ?_⟩) rfl rfl
      · rw [pk_sub c, nI_clamp (n := k - (zjp x).length) (by omega)]
        have hge := hgy k c (by omega)
        by_cases c3 : zk y = 3
        · obtain ⟨p, q, p1, p2, p3, p4, p5, p6, p7, p8⟩ := packed wy hy c3
          have hr := p8 (k - (zjp x).length) (by omega)
          obtain ⟨r, r1, r2, r3⟩ := hr.ocl
          rw [← hge] at hr
          obtain ⟨p', ep, tp⟩ := y3.1 c3
          cases p1.symm.trans ep
          subst p1
          exact is_y (X := True) rfl tp ⟨tp, g.ocE p2 p3, q, by rw [g.vlE p2]; exact p4, 4, by decide, (g.tgE p5).trans p6, by rw [g.lnE p5, p7]; exact inB_n (by omega), r, by rw [g.vlE p5]; exact r1, old r (Or.inl (by rw [← r1]; exact hr))⟩
        · have hy1 : zjp y = [y] := if_neg c3
          rw [hy1] at hge hLl
          have hl1 : ([y] : List Th).length = 1 := rfl
          have hk0 : k - (zjp x).length = 0 := by
            have : ([y] : List Th).length = 1 := rfl
            omega
          rw [hk0] at hge
          refine is_n (y3.2 c3) ?_
          rw [nI_1]
          refine C_asThing hst g hcb (by omega) (t := L.getD k (zI 0)) ?_ (by omega) new
          rw [hge, ← evy]; exact hy
      · have hge := hgx k c
        by_cases c3 : zk x = 3
        · obtain ⟨p, q, p1, p2, p3, p4, p5, p6, p7, p8⟩ := packed wx hx c3
          have hr := p8 k c
          obtain ⟨r, r1, r2, r3⟩ := hr.ocl
          rw [← hge] at hr
          obtain ⟨p', ep, tp⟩ := x3.1 c3
          cases p1.symm.trans ep
          subst p1
          exact is_y (X := True) rfl tp ⟨tp, g.ocE p2 p3, q, by rw [g.vlE p2]; exact p4, 4, by decide, (g.tgE p5).trans p6, by rw [g.lnE p5, p7]; exact inB_n c, r, by rw [g.vlE p5]; exact r1, old r (Or.inl (by rw [← r1]; exact hr))⟩
        · have hx1 : zjp x = [x] := if_neg c3
          rw [hx1] at hge c
          have hk0 : k = 0 := by
            have : ([x] : List Th).length = 1 := rfl
            omega
          refine is_n (x3.2 c3) ?_
          refine C_asThing hst g hcb (by omega) (t := L.getD k (zI 0)) ?_ (by omega) new
          rw [hge, hk0, ← evx]; exact hx
  have x3 := hx.isRow 3 (by decide) (by decide)
  have y3 := hy.isRow 3 (by decide) (by decide)
  have go : ∀ m : Int32, m = nI N → (¬ m < 0 ∧ m.toNatClampNeg ≤ 60000000 ∧ rmF E f 1 m.toNatClampNeg ∧ ∀ (a11 : Nat) (f12 : RH), a11 = f.1 → f12 = fnewA f 4 m.toNatClampNeg → ExC l E w (d + 4) MX7_joinPacks 43 [some (.ref (w.1 7)), some (.int (nI n)), some vx, some vy, some (.int place), some (.int (nI (zjp x).length)), some (.ref a11), some (.int 0), none, none] [] s f12 Q) := by
    intro m em
    subst em
    rw [nI_clamp (by omega)]
    refine ⟨i32_nn _ (by omega), by omega, (by show f.2.1 + 1 + N ≤ BM; omega), fun a11 f12 e1 e2 => ?_⟩
    subst e1 e2
    exact loop _ (PB.start E f N)
  have szx : zk x = 3 → nI (zn x) = nI (zjp x).length := fun c => by rw [zn_ze, show zjp x = ze x from if_pos c]
  have szy : zk y = 3 → nI (zn y) = nI (zjp y).length := fun c => by rw [zn_ze, show zjp y = ze y from if_pos c]
  refine eX7_joinPacks hx.isR hy.isR hst ⟨hx.isT, ?_⟩
  by_cases cx : zk x = 3
  · obtain ⟨p, ep, tp⟩ := x3.1 cx
    have hxT := (rcV_thing (t := x) (by omega)).mp hx
    subst ep
    refine is_y (X := True) rfl tp ⟨fun o s1 f2 => o = .inl (some (.int (nI (zn x)))) ∧ s1 = s ∧ f2 = f, ?_, C_size hst hxT ⟨rfl, rfl, rfl⟩⟩
    rintro o s1 f2 ⟨rfl, rfl, rfl⟩
    rw [szx cx]
    refine ⟨_, rfl, hy.isT, ?_⟩
    by_cases cy : zk y = 3
    · obtain ⟨q, eq, tq⟩ := y3.1 cy
      have hyT := (rcV_thing (t := y) (by omega)).mp hy
      subst eq
      refine is_y (X := True) rfl tq ⟨fun o s3 f4 => o = .inl (some (.int (nI (zn y)))) ∧ s3 = s1 ∧ f4 = f2, ?_, C_size hst hyT ⟨rfl, rfl, rfl⟩⟩
      rintro o s3 f4 ⟨rfl, rfl, rfl⟩
      rw [szy cy]
      exact ⟨_, rfl, go _ (by rw [nI_add, ← hLl])⟩
    · refine is_n (y3.2 cy) (go _ ?_)
      have : (zjp y).length = 1 := by rw [show zjp y = [y] from if_neg cy]; rfl
      rw [nI_1, hLl, this]
  · have hx1 : (zjp x).length = 1 := by rw [show zjp x = [x] from if_neg cx]; rfl
    rw [hx1] at go hLl
    refine is_n (x3.2 cx) ⟨hy.isT, ?_⟩
    by_cases cy : zk y = 3
    · obtain ⟨q, eq, tq⟩ := y3.1 cy
      have hyT := (rcV_thing (t := y) (by omega)).mp hy
      subst eq
      refine is_y (X := True) rfl tq ⟨fun o s3 f4 => o = .inl (some (.int (nI (zn y)))) ∧ s3 = s ∧ f4 = f, ?_, C_size hst hyT ⟨rfl, rfl, rfl⟩⟩
      rintro o s3 f4 ⟨rfl, rfl, rfl⟩
      rw [szy cy]
      exact ⟨_, rfl, go _ (by rw [nI_1l, ← hLl])⟩
    · refine is_n (y3.2 cy) (go _ ?_)
      have : (zjp y).length = 1 := by rw [show zjp y = [y] from if_neg cy]; rfl
      rw [hLl, this]; rfl
/-- a join of tables and rows -/
theorem C_joinTabs (hst : l.stackTraces = false) {n0 n1 place : Int32} {x y : Th} {px py N : Nat} (hx : rcV E f n0 (.ref px) x) (hy : rcV E f n1 (.ref py) y) (wx : ZW x) (wy : ZW y) (kx : zk x = 1 ∨ zk x = 2) (ky : zk y = 1 ∨ zk y = 2) (hN : (zjt x ++ zjt y).length = N) (hcb : f.2.2.2 ≤ f.1) (hz : ez E ≤ f.1) (hroom : f.2.1 + 300 ≤ BM)
    (h1 : zgt (zT (zjt x ++ zjt y)) = false → ∀ p f', rcT f'.2.2.1 (ez E) f'.1 true (zT (zjt x ++ zjt y)) (fun _ => .ref p) → Gw f f' (4 * N + 5) → Q (.inl (some (.ref p))) s f') (h2 : zgt (zT (zjt x ++ zjt y)) = true → ∀ f', Gw f f' 250 → Q (.inr 9) (cwrong s 2 place) f') : ∀ fk, TB E f N [] (N + 1) fk → ExC l E w (d + 3) MX7_join 100 [some (.ref (w.1 7)), none, some (.ref px), some (.ref py), some (.int place), some (.int (nI (zjt x).length)), some (.ref f.1), some (.int 0)] [] s fk Q := by
  obtain ⟨wx1, wx2⟩ := zjt_w wx
  obtain ⟨wy1, wy2⟩ := zjt_w wy
  have hLl : (zjt x ++ zjt y).length = (zjt x).length + (zjt y).length := List.length_append
  have hLw : ∀ r ∈ zjt x ++ zjt y, r.length ≤ 64 := fun t ht => (List.mem_append.mp ht).elim (wx1 t) (wy1 t)
  have hgx : ∀ k, k < (zjt x).length → (zjt x ++ zjt y).getD k [] = (zjt x).getD k [] := fun k hk => getD_app1 _ _ hk
  have hgy : ∀ k, (zjt x).length ≤ k → (zjt x ++ zjt y).getD k [] = (zjt y).getD (k - (zjt x).length) [] := fun k hk => by
    have := getD_app2 (zjt x) (zjt y) [] (k - (zjt x).length)
    rw [Nat.add_sub_cancel' hk] at this
    exact this
  generalize hL : zjt x ++ zjt y = L at *
  /- a side's row -/
  have rw1 : ∀ {z : Th} {nz : Int32} {pz i : Nat} {fk : RH} {P : KO → CS → RH → Prop}, rcV E fk nz (.ref pz) z → ZW z → (zk z = 1 ∨ zk z = 2) → i < (zjt z).length → (∀ r, rcI fk.2.2.1 (ez E) fk.2.2.2 (.ref r) ((zjt z).getD i []) → P (.inl (some (.ref r))) s fk) → EvC l E w (d + 2) MX5_rowOf [.ref pz, .int (nI i)] s fk P := by
    intro z nz pz i fk P hz wz kz hi hP
    rcases kz with c | c
    · have e : zjt z = [zr z] := if_neg (by omega)
      rw [e] at hi hP
      have hi0 : i = 0 := by have : i < 1 := hi; omega
      subst hi0
      rw [zk1 c] at hz
      refine C_rowOf hst (x := .inr (.inl (zr z))) hz (fun a e => by cases e) (fun v hv => ?_)
      obtain ⟨r, r1, _⟩ := rcI.vw hv
      subst r1
      exact hP r hv
    · have e : zjt z = zt z := if_pos c
      rw [e] at hi hP
      rw [zk2 c] at hz wz
      refine C_rowOf hst (x := .inr (.inr (zt z))) hz (fun a e => by cases e; exact ⟨hi, by have := wz.1; omega⟩) (fun v hv => ?_)
      obtain ⟨r, r1, _⟩ := rcI.vw hv
      subst r1
      exact hP r hv
  refine dn (P := fun k => ∀ fk, TB E f N (L.take k) (N + 1) fk → ExC l E w (d + 3) MX7_join 100 [some (.ref (w.1 7)), none, some (.ref px), some (.ref py), some (.int place), some (.int (nI (zjt x).length)), some (.ref f.1), some (.int (nI k))] [] s fk Q) N ?_ (fun k hk ih => ?_)
  · intro fk hB
    rw [List.take_of_length_le (by omega)] at hB
    obtain ⟨b1, b2, b3, b4, b5⟩ := hB
    have hbud := b1.2.2.1
    refine vX7_join_100 ⟨11, b3, ?_⟩
    rw [b4]
    refine pk_le N N (fun _ => ?_) (fun c => by omega) rfl rfl
    exact C_table hst b3 (b4.trans hN.symm) b2 b5 (by omega) hLw (by omega) (by have := b1.1; rw [b1.2.1]; omega) (fun hz1 f' q1 q2 => ⟨_, rfl, h1 hz1 _ f' q1 ((b1.trans q2).le (by omega))⟩) (fun hz1 f' q2 => h2 hz1 f' ((b1.trans q2).le (by omega)))
  · intro fk hB
    have g := hB.1
    have hll : (L.take k).length = k := by rw [List.length_take]; omega
    have hts := take_succ_getD L [] k (by omega)
    have nxt : ∀ r, rcI fk.2.2.1 (ez E) fk.2.2.2 (.ref r) (L.getD k []) → ∃ v96 : Value, some (Value.ref r) = some v96 ∧ isR v96 = true ∧ ∃ a97 : Nat, v96 = .ref a97 ∧ (tg fk f.1 = some (.inr 11) ∧ tg fk a97 = some (.inr 0) ∧ ez E ≤ a97 ∧ inB (nI k) (ln fk f.1) ∧ fk.2.2.2 ≤ f.1 ∧ ∀ f98 : RH, f98 = fset fk f.1 k (.ref a97) → ExC l E w (d + 3) MX7_join 100 [some (.ref (w.1 7)), none, some (.ref px), some (.ref py), some (.int place), some (.int (nI (zjt x).length)), some (.ref f.1), some (.int (nI k + 1))] [] s f98 Q) := by
      intro r hr
      obtain ⟨r', r1, r2, r3, r4, r5⟩ := hr.vw
      cases r1
      refine ⟨_, rfl, rfl, r, rfl, hB.2.2.1, r3, r2.1, by rw [hB.2.2.2.1]; exact inB_n hk, by rw [g.2.1]; exact hcb, fun f98 e => ?_⟩
      have := hB.put (rcI_up (by rw [g.2.1]; exact Nat.le_trans hcb g.1) hr)
      rw [hll, ← hts] at this
      rw [e, nI_1]
      exact ih _ this
    refine vX7_join_100 ⟨11, hB.2.2.1, ?_⟩
    rw [hB.2.2.2.1]
    refine pk_le N k (fun c => by omega) (fun _ => ?_) rfl rfl
    rw [nI_clamp (n := k) (by omega)]
    refine pk_le (zjt x).length k (fun c => ?_) (fun c => ?_) rfl rfl
    · rw [pk_sub c]
      refine rw1 (hy.gw g hcb) wy ky (by omega) (fun r hr => nxt r ?_)
      rw [hgy k c]; exact hr
    · refine rw1 (hx.gw g hcb) wx kx c (fun r hr => nxt r ?_)
      rw [hgx k c]; exact hr
theorem C_b19 (hst : l.stackTraces = false) {n md : Nat} {x y : Th} {place : Int32} (h : COk E n md [x, y] s f) (hQ : ∀ o s' f', cop E n md (zbi2 19 x y) place s f o s' f' → Q o s' f') : EvC l E w (d + 6) MX7_ofTwo [.ref (w.1 7), .int 19, .int place] s f Q := by
  obtain ⟨hx, hy, wx, wy, h26, h83⟩ := h.v2
  obtain ⟨⟨-, -, h40, hmd⟩, ⟨hr, hz, hcb⟩, -, -⟩ := h
  have hz1 : ez E ≤ f.1 := Nat.le_trans hz hcb
  refine EvC.pfrz (eX7_ofTwo hst fun y1 ey => ?_)
  rw [h26, nI_s2] at ey
  subst ey
  rw [nI_1, nI_clamp (n := n) (by omega), nI_clamp (n := n + 1) (by omega)]
  refine ⟨inB_n (by omega), _, rfl, hx.isR, inB_n (by omega), _, rfl, hy.isR, br_t rfl ?_⟩
  have hb : zbi2 19 x y = zjoin x y := rfl
  have fin : ∀ {t : Th} {p cc : Nat} {f' : RH}, zbi2 19 x y = .inr t → rcT f'.2.2.1 (ez E) f'.1 true t (fun _ => .ref p) → Gw f f' cc → cc ≤ 2 * zm t → ¬ zk t = 0 → ZW t → ∃ a6 : Nat, some (Value.ref p) = some (.ref a6) ∧ EvC l E w (d + 5) MX3_give_2 [.ref (w.1 3), .ref a6, .int 2, .int place] s f' (fun o s1 f2 => KP o (fun r => r = none ∧ Q (.inl none) s1 (frz f2)) (fun k => Q (.inr k) s1 (frz f2))) := by
    intro t p cc f' h1 h2 h3 h4 h5 h6
    exact ⟨_, rfl, C_fin hst (parts := 2) (f0 := f) h1 (cfr.rf JC n s) h3.2.2.1 h2 h5 h6 h26 (by omega) h40 hmd h4 hQ⟩
  have x3 := hx.isRow 3 (by decide) (by decide)
  have y3 := hy.isRow 3 (by decide) (by decide)
  have x2 := hx.isRow 2 (by decide) (by decide)
  have y2 := hy.isRow 2 (by decide) (by decide)
  have packs : zk x = 3 ∨ zk y = 3 → ∀ vx vy : Value, vx = s.2.2.2 25 n → vy = s.2.2.2 25 (n + 1) → EvC l E w (d + 4) MX7_joinPacks [.ref (w.1 7), .int (nI n), vx, vy, .int place] s f (fun o s3 f4 => KP o (fun r => ∃ a5 : Nat, r = some (.ref a5) ∧ ∃ a6 : Nat, some (Value.ref a5) = some (.ref a6) ∧ EvC l E w (d + 5) MX3_give_2 [.ref (w.1 3), .ref a6, .int 2, .int place] s3 f4 (fun o s1 f2 => KP o (fun r => r = none ∧ Q (.inl none) s1 (frz f2)) (fun k => Q (.inr k) s1 (frz f2)))) (fun k => Q (.inr k) s3 (frz f4))) := by
    intro hk vx vy e1 e2
    have hzj : zbi2 19 x y = zmk (zP (zjp x ++ zjp y)) := by rw [hb]; exact if_pos hk
    have hw : ∀ t ∈ zjp x ++ zjp y, ZW t := fun t ht => (List.mem_append.mp ht).elim ((zjp_w wx).1 t) ((zjp_w wy).1 t)
    refine C_joinPacks hst h83 hx hy wx wy hcb (by omega) e1 e2 (fun c p f' q1 q2 => ⟨p, rfl, ?_⟩) (fun c f' q2 => hQ _ _ _ (cop.tr (k := 2) (hzj.trans (by unfold zmk; rw [if_pos c])) rfl h40 (by have := q2.2.2.1; omega)))
    have hmk : zmk (zP (zjp x ++ zjp y)) = .inr (zP (zjp x ++ zjp y)) := by unfold zmk; rw [c]; rfl
    exact fin (hzj.trans hmk) q1 q2 (by show _ ≤ 2 * (4 + 2 * (zl (zsp (zjp x ++ zjp y))).length); rw [zl_zsp]; omega) (by show ¬ 3 = 0; decide) (zmk_pack hw hmk).2
  refine eX7_join hx.isR hy.isR hst ⟨hx.isT, ?_⟩
  by_cases cx3 : zk x = 3
  · obtain ⟨p, ep, tp⟩ := x3.1 cx3
    exact is_y (X := True) ep tp (packs (Or.inl cx3) _ _ ep.symm rfl)
  refine is_n (x3.2 cx3) ⟨hy.isT, ?_⟩
  by_cases cy3 : zk y = 3
  · obtain ⟨p, ep, tp⟩ := y3.1 cy3
    exact is_y (X := True) ep tp (packs (Or.inr cy3) _ _ rfl ep.symm)
  refine is_n (y3.2 cy3) ⟨hx.isT, ?_⟩
  have hno3 : ¬ (zk x = 3 ∨ zk y = 3) := by omega
  have wr3 : zbi2 19 x y = .inl 3 → EvC l E w (d + 4) MX3_wrong [.ref (w.1 3), .int 3, .int place] s f (fun o s1 f2 => KP o (fun r => r = some (.ref (w.1 9)) ∧ Q (.inr 9) s1 (frz f2)) (fun k => Q (.inr k) s1 (frz f2))) := fun e => C_finW hst (k := 3) e rfl (cfr.rf JC n s) h40 (by omega) hQ
  have tabs : ∀ (px py N : Nat), s.2.2.2 25 n = .ref px → s.2.2.2 25 (n + 1) = .ref py → (zk x = 2 ∨ zk y = 2) → (zjt x ++ zjt y).length = N → ∀ m : Int32, m = nI N → ∀ nx : Int32, nx = nI (zjt x).length → (¬ m < 0 ∧ m.toNatClampNeg ≤ 60000000 ∧ rmF E f 1 m.toNatClampNeg ∧ ∀ (a24 : Nat) (f25 : RH), a24 = f.1 → f25 = fnewA f 11 m.toNatClampNeg → ExC l E w (d + 5) MX7_join 100 [some (.ref (w.1 7)), none, some (.ref px), some (.ref py), some (.int place), some (.int nx), some (.ref a24), some (.int 0)] [] s f25 (fun o s3 f4 => KP o (fun r => ∃ a6 : Nat, r = some (.ref a6) ∧ EvC l E w (d + 5) MX3_give_2 [.ref (w.1 3), .ref a6, .int 2, .int place] s3 f4 (fun o s1 f2 => KP o (fun r => r = none ∧ Q (.inl none) s1 (frz f2)) (fun k => Q (.inr k) s1 (frz f2)))) (fun k => Q (.inr k) s3 (frz f4)))) := by
    intro px py N ex ey hk2 hN m em nx enx
    have hxn : ¬ zk x = 0 := fun z => by
      rcases hx.cls with ⟨_, e1, _⟩ | ⟨_, _, _, e3, _⟩
      · rw [ex] at e1; cases e1
      · exact e3 z
    have hyn : ¬ zk y = 0 := fun z => by
      rcases hy.cls with ⟨_, e1, _⟩ | ⟨_, _, _, e3, _⟩
      · rw [ey] at e1; cases e1
      · exact e3 z
    have hxl := zk_le x
    have hyl := zk_le y
    have hzj : zbi2 19 x y = zmk (zT (zjt x ++ zjt y)) := by
      rw [hb]
      show (if zk x = 3 ∨ zk y = 3 then _ else if zk x = 2 ∨ zk y = 2 then (if zk x = 0 ∨ zk y = 0 then _ else _) else _) = _
      rw [if_neg hno3, if_pos hk2, if_neg (by omega)]
      rfl
    have hwx := zjt_w wx
    have hwy := zjt_w wy
    rw [List.length_append] at hN
    subst em enx
    rw [nI_clamp (by omega)]
    refine ⟨i32_nn _ (by omega), by omega, (by show f.2.1 + 1 + N ≤ BM; omega), fun a24 f25 e1 e2 => ?_⟩
    subst e1 e2
    rw [ex] at hx
    rw [ey] at hy
    refine C_joinTabs hst (d := d + 2) hx hy wx wy (by omega) (by omega) (by rw [List.length_append]; exact hN) hcb hz1 (by omega) (fun c p f' q1 q2 => ?_) (fun c f' q2 => ?_) _ (TB.start E f N)
    · have hmk : zmk (zT (zjt x ++ zjt y)) = .inr (zT (zjt x ++ zjt y)) := by unfold zmk; rw [c]; rfl
      rw [zgtT] at c
      simp only [Bool.or_eq_false_iff, decide_eq_false_iff_not] at c
      have hw : ZW (zT (zjt x ++ zjt y)) := ⟨by omega, by omega, fun r hr => (List.mem_append.mp hr).elim (hwx.1 r) (hwy.1 r)⟩
      exact fin (hzj.trans hmk) q1 q2 (by show _ ≤ 2 * (4 + 4 * (zjt x ++ zjt y).length + _); rw [List.length_append]; omega) (by show ¬ 2 = 0; decide) hw
    · exact hQ _ _ _ (cop.tr (k := 2) (hzj.trans (by unfold zmk; rw [if_pos c])) rfl h40 (by have := q2.2.2.1; omega))
  have sz : ∀ {t : Th} {p : Nat} {nn : Int32} {K : Int32 → CS → RH → Prop} {B : Nat → CS → RH → Prop}, rcV E f nn (.ref p) t → ¬ zk t = 0 → K (nI (zn t)) s f → ∃ P14 : KO → CS → RH → Prop, (∀ o s5 f6, P14 o s5 f6 → KP o (fun r => ∃ v7 : Int32, r = some (.int v7) ∧ K v7 s5 f6) (fun k => B k s5 f6)) ∧ ∃ k13 : Nat, oc f p k13 ∧ ((k13 = 29 ∧ EvC l E w (d + 4) MX32_size [.ref p] s f P14) ∨ (k13 = 30 ∧ EvC l E w (d + 4) MX33_size [.ref p] s f P14) ∨ (k13 = 31 ∧ EvC l E w (d + 4) MX34_size [.ref p] s f P14) ∨ (k13 = 32 ∧ EvC l E w (d + 4) MX35_size [.ref p] s f P14)) := by
    intro t p nn K B h1 h3 h4
    have h5 := (rcV_thing h3).mp h1
    refine ⟨fun o s1 f2 => o = .inl (some (.int (nI (zn t)))) ∧ s1 = s ∧ f2 = f, ?_, C_size hst h5 ⟨rfl, rfl, rfl⟩⟩
    rintro o s1 f2 ⟨rfl, rfl, rfl⟩
    exact ⟨_, rfl, h4⟩
  have szt : ∀ t : Th, zk t = 2 → nI (zn t) = nI (zjt t).length := fun t c => by
    have : zjt t = zt t := if_pos c
    rw [this, zk2 c]
    rfl
  have lt1 : ∀ t : Th, ¬ zk t = 2 → (zjt t).length = 1 := fun t c => by
    have : zjt t = [zr t] := if_neg c
    rw [this]; rfl
  have hLA : (zjt x ++ zjt y).length = (zjt x).length + (zjt y).length := List.length_append
  by_cases cx2 : zk x = 2
  · obtain ⟨p, ep, tp⟩ := x2.1 cx2
    have hx' := hx
    rw [ep] at hx'
    have hxT := hx'.isT
    refine is_y (X := True) ep tp ⟨fun e => ?_, fun q eq => ⟨hxT, br_t tp (sz hx' (by omega) ?_)⟩⟩
    · refine wr3 ?_
      rcases hy.cls with ⟨y0, _, _⟩ | ⟨_, y1, _⟩
      · rw [hb]
        show (if zk x = 3 ∨ zk y = 3 then _ else if zk x = 2 ∨ zk y = 2 then (if zk x = 0 ∨ zk y = 0 then _ else _) else _) = _
        rw [if_neg hno3, if_pos (Or.inl cx2), if_pos (Or.inr y0)]
      · rw [e] at y1; cases y1
    · have hy' := hy
      rw [eq] at hy'
      rw [szt x cx2]
      refine ⟨hy'.isT, ?_⟩
      by_cases cy2 : zk y = 2
      · obtain ⟨q', eq', tq⟩ := y2.1 cy2
        cases eq.symm.trans eq'
        exact br_t tq (sz hy' (by omega) (by rw [szt y cy2]; exact tabs p q _ ep eq (Or.inl cx2) rfl _ (by rw [nI_add, hLA]) _ rfl))
      · exact br_f (y2.2 cy2 q eq) (tabs p q _ ep eq (Or.inl cx2) rfl _ (by rw [nI_1, hLA, lt1 y cy2]) _ rfl)
  refine is_n (x2.2 cx2) ⟨hy.isT, ?_⟩
  by_cases cy2 : zk y = 2
  · obtain ⟨q, eq, tq⟩ := y2.1 cy2
    have hy' := hy
    rw [eq] at hy'
    refine is_y (X := True) eq tq ⟨fun e => ?_, fun p ep => ?_⟩
    · refine wr3 ?_
      rcases hx.cls with ⟨x0, _, _⟩ | ⟨_, x1, _⟩
      · rw [hb]
        show (if zk x = 3 ∨ zk y = 3 then _ else if zk x = 2 ∨ zk y = 2 then (if zk x = 0 ∨ zk y = 0 then _ else _) else _) = _
        rw [if_neg hno3, if_pos (Or.inr cy2), if_pos (Or.inl x0)]
      · rw [e] at x1; cases x1
    · have hx' := hx
      rw [ep] at hx'
      exact ⟨hx'.isT, br_f (x2.2 cx2 p ep) ⟨hy'.isT, br_t tq (sz hy' (by omega) (by rw [szt y cy2]; exact tabs p q _ ep eq (Or.inr cy2) rfl _ (by rw [nI_1l, hLA, lt1 x cx2]) _ (by rw [lt1 x cx2]; rfl)))⟩⟩
  refine is_n (y2.2 cy2) ?_
  /- INTS and rows -/
  have hxl := zk_le x
  have hyl := zk_le y
  have hzj : zbi2 19 x y = zmk (zR (zpp x ++ zpp y)) := by
    rw [hb]
    show (if zk x = 3 ∨ zk y = 3 then _ else if zk x = 2 ∨ zk y = 2 then _ else zmk (zR ((if zk x = 1 then zr x else [zv x]) ++ (if zk y = 1 then zr y else [zv y])))) = _
    rw [if_neg hno3, if_neg (by omega)]
    unfold zpp
    by_cases a0 : zk x = 0
    · rw [if_neg (show ¬ zk x = 1 by omega), if_pos a0]
      by_cases b0 : zk y = 0
      · rw [if_neg (show ¬ zk y = 1 by omega), if_pos b0]
      · rw [if_pos (show zk y = 1 by omega), if_neg b0]
    · rw [if_pos (show zk x = 1 by omega), if_neg a0]
      by_cases b0 : zk y = 0
      · rw [if_neg (show ¬ zk y = 1 by omega), if_pos b0]
      · rw [if_pos (show zk y = 1 by omega), if_neg b0]
  have av : ∀ {t : Th} {v : Value} {nn : Int32} {fk : RH} {c : Nat}, rcV E f nn v t → zk t < 2 → Gw f fk c → AV E fk f.2.2.2 v nn t := by
    intro t v nn fk c ht hk g
    have h' := ht.gw g hcb
    refine ⟨⟨h'.isR, h'.isT⟩, ?_⟩
    by_cases c1 : zk t = 1
    · exact Or.inl ⟨c1, g.rT hcb ((rcV_thing (by omega)).mp ht)⟩
    · have c0 : zk t = 0 := by omega
      rcases h'.cls with ⟨_, e1, e2⟩ | ⟨_, _, _, e3, _⟩
      · exact Or.inr ⟨c0, e2, fun z ez => by rw [e1] at ez; cases ez⟩
      · exact absurd c0 e3
  have hlx := zpp_len wx
  have hly := zpp_len wy
  have hLs : (zpp x ++ zpp y).length = (zpp x).length + (zpp y).length := List.length_append
  refine C_intsOf hst (av hx (by omega) (Gw.rf f)) ⟨_, rfl, ?_⟩
  refine C_intsOf hst (av hy (by omega) (Gw.rf f)) ⟨_, rfl, ?_⟩
  rw [nI_add]
  refine C_mints hst (by omega) (fun c1 c2 => ⟨_, rfl, inB_n (by omega), ?_⟩) (fun c1 => hQ _ _ _ (cop.tr (k := 2) (hzj.trans ?_) rfl h40 (by omega))) (fun c1 => absurd c1 (i32_nn _ (by omega)))
  · rw [nI_clamp (by omega)] at c2
    rw [nI_clamp (n := (zpp x).length + (zpp y).length) (by omega), nI_clamp (n := n) (by omega)]
    have hI := IA.fa f ((zpp x).length + (zpp y).length) []
    refine C_copyInts hst (at0 := 0) hI rfl (av hx (by omega) hI.gw) hcb (by show 0 + _ ≤ _; omega) (by omega) hcb (fun f3 hI3 => ⟨rfl, ?_⟩)
    rw [List.nil_append] at hI3
    rw [nI_1, nI_clamp (n := n + 1) (by omega)]
    refine ⟨inB_n (by omega), C_copyInts hst hI3 rfl (av hy (by omega) hI3.gw) hcb (by omega) (by omega) hcb (fun f4 hI4 => ⟨rfl, ?_⟩)⟩
    have hbud := hI4.gw.2.2.1
    refine C_newRow hst (hI4.rI hz1 hLs) (by omega) (by rw [hI4.eqs.2.2, hI4.eqs.1]; omega) (fun f' q1 q2 => ?_)
    have hw : ZW (zR (zpp x ++ zpp y)) := by show (zpp x ++ zpp y).length ≤ 64; omega
    exact fin (hzj.trans (zmk_ok hw)) q1 (hI4.gw.trans q2) (by show _ ≤ 2 * (4 + (zpp x ++ zpp y).length); omega) (by show ¬ 1 = 0; decide) hw
  · rw [nI_toInt (by omega)] at c1
    unfold zmk
    rw [if_pos]
    show decide (64 < (zpp x ++ zpp y).length) = true
    exact decide_eq_true (by omega)
end CJo
