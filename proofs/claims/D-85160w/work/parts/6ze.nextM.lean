/-! THE MODEL: works, for, each and fold, N [E] = E -/
theorem nI_ne_m1 {n : Nat} (h : n < 2 ^ 31) : ¬ nI n = -1 := fun c => by
  have := congrArg Int32.toInt c
  rw [nI_toInt h] at this
  have e : (-1 : Int32).toInt = -1 := by decide
  rw [e] at this
  omega
theorem zput1_q {x i v : Th} {k q : Nat} (h : zput1 x i v = .inl (k, q)) : q = 0 := by
  unfold zput1 at h
  split at h
  · cases h; rfl
  · split at h
    · cases h; rfl
    · split at h
      · cases h; rfl
      · cases h
theorem zput2_q {x i j v : Th} {k q : Nat} (h : zput2 x i j v = .inl (k, q)) : q = 0 ∨ (k = 5 ∧ q = 1) := by
  unfold zput2 at h
  split at h
  · cases h; exact Or.inl rfl
  · split at h
    · cases h; exact Or.inl rfl
    · split at h
      · cases h; exact Or.inr ⟨rfl, rfl⟩
      · split at h
        · cases h; exact Or.inl rfl
        · cases h
def zfv (b : Nat) : Option Th → Th
  | none => zI (nI b)
  | some t => zel t b
theorem afornext_eq (fuel : Nat) (o : Od) (pc : Nat) (pl : List Th) (fr : List Fm) (k : Nat) (t : Option Th) (a b c d e : Nat) (p : Int32) (r : List Wy) (sh : Nat → Option Th) (ct : Ct) (out : List Int32) : afornext fuel o pc pl fr ((k, t, a, b, c, d, e, p) :: r) sh ct out = if ct.1 = fuel then (pc + 1, pl, fr, (k, t, a, b, c, d, e, p) :: r, sh, ct, out, (10, o.2.2.2.2, 0)) else if b = c then (o.2.1, pl, fr, r, sh, (ct.1 + 1, ct.2), out, (0, -1, 0)) else (pc + 1, pl, aputF fr o.2.2.1 (zfv b t), (k, t, a, b + 1, c, d, e, p) :: r, aputS sh o.2.2.1 (zfv b t), (ct.1 + 1, ct.2), out, (0, -1, 0)) := by
  unfold afornext
  cases t <;> rfl
section MX
variable {l : Launch} {E : EN} {w : MO} {d : Nat} {Q : Option Value → MS → Prop} {P : Pg} {fuel : Nat} {s0 s : MS} {pc : Nat} {pl : List Th} {fr : List Fm} {wy : List Wy} {sh : Nat → Option Th} {ct : Ct} {out : List Int32}
theorem mS_fin {b : Nat} {rest : List Th} (hB : mBz fuel s0 b fr wy sh ct.1 ct.2.2.1 ct.2.2.2 out s) (hPr : mPs s b rest) (hb : b ≤ 154250 + ct.2.1) (h124 : s.1 124 = -1) (h126 : ¬ fr = [] → s.1 126 = nI pc) {r : Nat ⊕ Th} {s' : MS} (hk : zkd r) (q : mop b rest.length ct.2.1 r s s') : mRz fuel s0 (afin pc r rest fr wy sh ct out (s.1 127)) s' := by
  obtain ⟨q1, q2⟩ := q
  cases r with
  | inl k =>
    obtain ⟨q3, q4, q5, b', q6, q7, q8⟩ := q2
    have hkk := hk k rfl
    refine Or.inr ⟨b', hB.op q6 q1, hPr.op q6 q1 (Nat.le_refl _), q8, q3, by omega, q4, ?_, ?_, q5, fun c => ?_⟩
    · show ¬ k = 0; omega
    · show k < 12; omega
    · exact absurd c (by show ¬ k = 9; omega)
  | inr v =>
    obtain ⟨q3, b', q6, q7, q8, q9⟩ := q2
    unfold afin
    dsimp only
    split at q9
    · rename_i c
      rw [if_pos c]
      exact Or.inr ⟨b', hB.op q6 q1, hPr.op q6 q1 (Nat.le_refl _), q8, q3, by show b' ≤ 154550 + (ct.2.1 + zm v); omega, q9.1, (show ¬ 11 = 0 by decide), (show 11 < 12 by decide), q9.2, fun c => absurd c (show ¬ 11 = 9 by decide)⟩
    · rename_i c
      rw [if_neg c]
      obtain ⟨q10, q11, q12⟩ := q9
      have hv := q12.2.2.2.2 0 (by show 0 < 1; decide)
      exact Or.inl ⟨rfl, b', hB.op q6 q1, ⟨hv, hPr.op q6 q1 (Nat.le_refl _)⟩, q8, q12.2.2.2.1, q3, by show b' ≤ 154250 + (ct.2.1 + zm v); omega, q10, q11.trans h124, fun c => (q1.1 126 (by decide)).trans (h126 c)⟩
theorem D_works (hst : l.stackTraces = false) (hc : mCode P s0) (hg : aGood P fuel (pc, pl, fr, wy, sh, ct, out, (0, -1, 0))) (hS : mS fuel s0 (pc + 1) pl fr wy sh ct out s) (h127 : s.1 127 = (P.1 pc).2.2.2.2) (ho : 4 ≤ (P.1 pc).1 ∧ (P.1 pc).1 ≤ 10)
    (hQ : ∀ s', mRz fuel s0 (doA P fuel (pc, pl, fr, wy, sh, ct, out, (0, -1, 0))) s' → Q none s') : EvM l E w (d + 9) MX10_does [.ref w.1, .int (nI pc)] s Q := by
  obtain ⟨hpl, hfr, hfr1, hwy, hzw, hmd, -, hfit, -⟩ := hg
  have hop := hS.code hc hfit.1
  have hneed := hfit.2.1
  have e : doA P fuel (pc, pl, fr, wy, sh, ct, out, (0, -1, 0)) = (if ct.1 = fuel then (pc + 1, pl, fr, wy, sh, ct, out, (10, (P.1 pc).2.2.2.2, 0)) else aworks P (P.1 pc) pc pl fr wy sh (ct.1 + 1, ct.2) out) := by
    unfold doA
    dsimp only
    rw [if_neg (by omega), if_neg (by omega), if_neg (by omega), if_pos (by omega)]
  rw [e] at hQ
  have o1 := hop.1
  have o2 := hop.2.1
  refine eX10_does hst ⟨inB_n o1, ?_⟩
  rw [nI_clamp (by omega), o2]
  have hk : (P.1 pc).1 = 4 ∨ (P.1 pc).1 = 5 ∨ (P.1 pc).1 = 6 ∨ (P.1 pc).1 = 7 ∨ (P.1 pc).1 = 8 ∨ (P.1 pc).1 = 9 ∨ (P.1 pc).1 = 10 := by omega
  have hne : ¬ (nI (P.1 pc).1 = 1 ∨ nI (P.1 pc).1 = 16) ∧ ¬ nI (P.1 pc).1 = 2 ∧ ¬ nI (P.1 pc).1 = 3 ∧ (nI (P.1 pc).1 = 4 ∨ nI (P.1 pc).1 = 5 ∨ nI (P.1 pc).1 = 6 ∨ nI (P.1 pc).1 = 7 ∨ nI (P.1 pc).1 = 8 ∨ nI (P.1 pc).1 = 9 ∨ nI (P.1 pc).1 = 10) := by
    rcases hk with h | h | h | h | h | h | h <;> rw [h] <;> decide
  refine ⟨fun c => absurd c hne.1, fun _ => ⟨fun c => absurd c hne.2.1, fun _ => ⟨fun c => absurd c hne.2.2.1, fun _ => ⟨fun _ => ?_, fun c => absurd hne.2.2.2 c⟩⟩⟩⟩
  refine M_step hst hS (fun c q => ⟨rfl, fun z => absurd q.z z, fun _ => ?_⟩) (fun c q => ⟨rfl, fun _ => hQ _ ?_, fun z => absurd z (by show ¬ (10 : Int32) = 0; decide)⟩)
  · rw [if_neg c] at hQ
    have hQ' := fun s' q => And.intro (rfl : (none : Option Value) = none) (hQ s' q)
    have hop' : mOd P (sI s 117 (nI (ct.1 + 1))) pc := hop
    have hg' : aRm P pc pl fr wy (ct.1 + 1, ct.2) := ⟨hpl, hfr, hfr1, hwy, hzw, hmd, hneed⟩
    rcases hk with h | h | h | h | h | h | h
    · exact W_4 (Q := fun r s' => r = none ∧ Q none s') hst hop' hg' q h127 h hQ'
    · exact W_5 (Q := fun r s' => r = none ∧ Q none s') hst hop' hg' q h127 h hQ'
    · exact W_6 (Q := fun r s' => r = none ∧ Q none s') hst hop' hg' q h127 h hQ'
    · exact W_7 (Q := fun r s' => r = none ∧ Q none s') hst hop' hg' q h127 h hQ'
    · exact W_8 (Q := fun r s' => r = none ∧ Q none s') hst hop' hg' q h127 h hQ'
    · exact W_9 (Q := fun r s' => r = none ∧ Q none s') hst hop' hg' q h127 h hQ'
    · exact W_10 (Q := fun r s' => r = none ∧ Q none s') hst hop' hg' q h127 h hQ'
  · rw [if_pos c, ← h127]
    exact Or.inr q
theorem D_fornext (hst : l.stackTraces = false) (hc : mCode P s0) (hg : aGood P fuel (pc, pl, fr, wy, sh, ct, out, (0, -1, 0))) (hS : mS fuel s0 (pc + 1) pl fr wy sh ct out s) (h127 : s.1 127 = (P.1 pc).2.2.2.2) (ho : (P.1 pc).1 = 18)
    (hQ : ∀ s', mRz fuel s0 (doA P fuel (pc, pl, fr, wy, sh, ct, out, (0, -1, 0))) s' → Q none s') : EvM l E w (d + 9) MX10_does [.ref w.1, .int (nI pc)] s Q := by
  obtain ⟨hpl, hfr, hfr1, hwy, hzw, hmd, -, hfit, -⟩ := hg
  have hpl : pl.length ≤ 8300 := hpl
  have hfr : fr.length ≤ 10 := hfr
  have hfr1 : 1 ≤ fr.length := hfr1
  have hwy : wy.length ≤ 390 := hwy
  have hfne : ¬ fr = [] := fun c => by rw [c] at hfr1; exact absurd hfr1 (by decide)
  have hop := hS.code hc hfit.1
  obtain ⟨o1, o2, o3, o4, o5, o6, o7, o8, o9, o10, o11, o12, o13, o14, o15⟩ := id hop
  have hF := hfit.2.2.2.1 ho
  have e : doA P fuel (pc, pl, fr, wy, sh, ct, out, (0, -1, 0)) = afornext fuel (P.1 pc) pc pl fr wy sh ct out := by
    unfold doA
    dsimp only
    rw [ho]
    rfl
  rw [e] at hQ
  have ht := o11 (by rw [ho]; decide)
  refine eX10_does hst ⟨inB_n o1, ?_⟩
  rw [nI_clamp (by omega), o2, ho]
  refine ⟨fun c => absurd c (by decide), fun _ => ⟨fun c => absurd c (by decide), fun _ => ⟨fun c => absurd c (by decide), fun _ => ⟨fun c => absurd c (by decide), fun _ => ⟨fun c => absurd c (by decide), fun _ => ⟨fun c => absurd c (by decide), fun _ => ⟨fun c => absurd c (by decide), fun _ => ⟨fun c => absurd c (by decide), fun _ => ⟨fun _ => ?_, fun c => absurd (by decide) c⟩⟩⟩⟩⟩⟩⟩⟩⟩
  match wy, hF, hwy, hS, hQ with
  | (k, t, a, b0, c0, dd, e, p) :: r, hF, hwy, hS, hQ =>
    obtain ⟨hk, hbc, hc31, hx⟩ : k = 1 ∧ b0 ≤ c0 ∧ c0 < 2 ^ 31 ∧ ∀ x, t = some x → ¬ zk x = 0 ∧ c0 = zn x := hF
    have hwy : r.length + 1 ≤ 390 := hwy
    subst hk
    rw [afornext_eq] at hQ
    refine eX10_forNext hst (M_step hst hS (fun c q => ⟨rfl, fun _ y2 e2 => ?_, fun z => absurd (by rw [q.z]; decide) z⟩) (fun c q => ⟨rfl, fun z => absurd z (by show ¬ (10 : Int32) ≤ 0; decide), fun _ => ⟨rfl, hQ _ ?_⟩⟩))
    · rw [if_neg c] at hQ
      obtain ⟨b, hB, hP, h105, h108, h119, hb, h123, h124, h126⟩ := q
      have hb : b ≤ 154250 + ct.2.1 := hb
      have hmd : ct.2.1 ≤ 3000 := hmd
      obtain ⟨k1, k2, k3, k4, k5, k6⟩ := hB.2.2.1.1
      obtain ⟨k61, k62, -⟩ := k6 (show ¬ 1 = 2 by decide)
      generalize hs1 : sI s 117 (nI (ct.1 + 1)) = s1 at *
      have k2 : s1.2.2.1 139 r.length = nI b0 := k2
      have k62 : s1.2.2.1 140 r.length = nI c0 := k62
      have k61 : mWt (s1.2.2.1 104) b (s1.2.2.1 138 r.length) t := k61
      have e136 : s1.1 136 - 1 = nI r.length := by rw [hB.2.2.2.1]; exact nI_pred r.length
      have o81 : s1.2.2.1 81 pc = nI (P.1 pc).2.1 := by rw [← hs1]; exact (o8 (by rw [ho]; decide)).1
      have o82 : s1.2.2.1 82 pc = nI (P.1 pc).2.2.1 := by rw [← hs1]; exact (o10 (by rw [ho]; decide)).1
      rw [e2, e136, show (nI r.length).toNatClampNeg = r.length from nI_clamp (by omega), show (nI pc).toNatClampNeg = pc from nI_clamp (by omega), k2, k62, o81]
      refine ⟨inB_n (by omega), inB_n (by omega), bn_eq b0 c0 (fun cb => ⟨inB_n (by omega), ?_⟩) (fun cb => ⟨inB_n o1, rfl, hQ _ ?_⟩) rfl rfl (by omega) hc31⟩
      · rw [if_neg cb] at hQ
        -- the value, on top of the pile for a while
        have fin : ∀ (x : Th) (k v : Int32), rmV (s1.2.2.1 104) b k v x → ZW x → x = zfv b0 t → ∀ z1, z1 = psh s1 pl.length k v → EvM l E w (d + 7) MX10_store [.ref w.1, .int (z1.2.2.1 82 pc), .int (z1.2.2.1 106 (z1.1 108 - 1).toNatClampNeg), .int (z1.2.2.1 107 (z1.1 108 - 1).toNatClampNeg)] (sI (sA z1 139 r.length (z1.2.2.1 139 r.length + 1)) 108 (z1.1 108 - 1)) (fun r s' => r = none ∧ (none : Option Value) = none ∧ Q none s') := by
          intro x k v hv wx ex z1 ez
          rw [ez]
          have f1 : (psh s1 pl.length k v).1 108 - 1 = nI pl.length := nI_pred pl.length
          have f2 : (psh s1 pl.length k v).2.2.1 82 pc = nI (P.1 pc).2.2.1 := o82
          have f3 : (psh s1 pl.length k v).2.2.1 139 r.length + 1 = nI (b0 + 1) := by
            show s1.2.2.1 139 r.length + 1 = _
            rw [k2, nI_1]
          rw [f1, f2, f3, nI_clamp (by omega), psh_k, psh_v, if_pos rfl, if_pos rfl]
          have hB1 := ((hB.pu pl.length k v).setb (b0 + 1)).si 108 (nI pl.length)
          have hP1 := (mPs.setb (W := r.length) (v := nI (b0 + 1)) (hP.pu hv).2).si (j := 108) (v := nI pl.length)
          refine M_store hst (D := fr.length) hB.2.1 hfr1 hfr ht ⟨rfl, rfl, hQ _ (Or.inl ⟨rfl, b, ?_, hP1.store, ?_, ?_, ?_, hb, ?_, ?_, fun c => ?_⟩)⟩
          · subst ex
            exact hB1.store hv wx hfr1 ht
          · rw [mst_1]; exact h105
          · rw [mst_1]; rfl
          · rw [mst_1]; exact h119
          · rw [mst_1]; exact h123
          · rw [mst_1]; exact h124
          · rw [mst_1]; exact h126 hfne
        have f1 : ∀ k v, (psh s1 pl.length k v).1 108 - 1 = nI pl.length := fun k v => nI_pred pl.length
        cases t with
        | none =>
          have k61 : s1.2.2.1 138 r.length = -1 := k61
          rw [k61]
          refine ⟨fun c => absurd rfl c, fun _ => ⟨inB_n (by omega), M_push hst h108 (by omega) ⟨rfl, inB_n (by omega), inB_n (by omega), inB_n o1, ?_, ?_, ?_⟩⟩⟩
          · rw [f1]; exact inB_n (by omega)
          · rw [f1]; exact inB_n (by omega)
          · exact fin (zI (nI b0)) 0 (nI b0) (Or.inl ⟨rfl, rfl, rfl⟩) trivial rfl _ rfl
        | some x =>
          obtain ⟨wx, q, eq, hr⟩ := k61
          obtain ⟨hx1, hx2⟩ := hx x rfl
          have hh := rmT_head hr
          rw [eq]
          refine ⟨fun _ => ⟨inB_n (by omega), inB_n (by omega), M_element hst hr (by omega) (by omega) h108 (by omega) (fun k' v' hkv => ⟨rfl, inB_n (by omega), inB_n (by omega), inB_n o1, ?_, ?_, ?_⟩)⟩, fun c => absurd c (nI_ne_m1 (by omega))⟩
          · rw [f1]; exact inB_n (by omega)
          · rw [f1]; exact inB_n (by omega)
          · exact fin (zel x b0) k' v' hkv (zw_zel wx b0) rfl _ rfl
      · rw [if_pos cb]
        exact Or.inl ⟨rfl, b, (hB.wset r hB.2.2.1.2).si 126 _, (hP.si (j := 136) (v := nI r.length)).si, h105, h108, h119, hb, h123, h124, fun _ => rfl⟩
    · rw [if_pos c, ← h127]
      exact Or.inr q
theorem D_next (hst : l.stackTraces = false) (hc : mCode P s0) (hg : aGood P fuel (pc, pl, fr, wy, sh, ct, out, (0, -1, 0))) (hS : mS fuel s0 (pc + 1) pl fr wy sh ct out s) (h127 : s.1 127 = (P.1 pc).2.2.2.2) (ho : (P.1 pc).1 = 11)
    (hQ : ∀ s', mRz fuel s0 (doA P fuel (pc, pl, fr, wy, sh, ct, out, (0, -1, 0))) s' → Q none s') : EvM l E w (d + 9) MX10_does [.ref w.1, .int (nI pc)] s Q := by
  obtain ⟨hpl, hfr, hfr1, hwy, hzw, hmd, -, hfit, -⟩ := hg
  have hpl : pl.length ≤ 8300 := hpl
  have hfr : fr.length ≤ 10 := hfr
  have hfr1 : 1 ≤ fr.length := hfr1
  have hwy : wy.length ≤ 390 := hwy
  have hmd : ct.2.1 ≤ 3000 := hmd
  have hfne : ¬ fr = [] := fun c => by rw [c] at hfr1; exact absurd hfr1 (by decide)
  have hop := hS.code hc hfit.1
  obtain ⟨o1, o2, o3, o4, o5, o6, o7, o8, o9, o10, o11, o12, o13, o14, o15⟩ := id hop
  have hF := hfit.2.2.1 ho
  have e : doA P fuel (pc, pl, fr, wy, sh, ct, out, (0, -1, 0)) = anext P fuel (P.1 pc) pc pl fr wy sh ct out := by
    unfold doA
    dsimp only
    rw [ho]
    rfl
  rw [e] at hQ
  unfold anext at hQ
  refine eX10_does hst ⟨inB_n o1, ?_⟩
  rw [nI_clamp (by omega), o2, ho]
  refine ⟨fun c => absurd c (by decide), fun _ => ⟨fun c => absurd c (by decide), fun _ => ⟨fun c => absurd c (by decide), fun _ => ⟨fun c => absurd c (by decide), fun _ => ⟨fun _ => ?_, fun c => absurd (by decide) c⟩⟩⟩⟩⟩
  match wy, hF, hwy, hS, hQ with
  | (k, t, a, b0, c0, dd, e, p) :: r, hF, hwy, hS, hQ =>
    obtain ⟨hk, ⟨x, rfl, hx1, hx2⟩, hbc, hdd, hk4⟩ : (k = 3 ∨ k = 4) ∧ (∃ x, t = some x ∧ ¬ zk x = 0 ∧ c0 = zn x) ∧ b0 ≤ c0 ∧ dd ≤ pl.length ∧ (k = 4 → 1 ≤ pl.length) := hF
    have hwy : r.length + 1 ≤ 390 := hwy
    dsimp only at hQ
    have hS2 := hS
    obtain ⟨b, hB, hP, h105, h108, h119, hb, h123, h124, h126⟩ := hS
    obtain ⟨k1, k2, k3, k4, k5, k6⟩ := hB.2.2.1.1
    have k4 : k < 5 := k4
    obtain ⟨k61, k62, k63⟩ := k6 (show ¬ k = 2 by omega)
    have k1 : s.2.2.1 137 r.length = nI k := k1
    have k2 : s.2.2.1 139 r.length = nI b0 := k2
    have k62 : s.2.2.1 140 r.length = nI c0 := k62
    have kk63 : s.2.2.1 141 r.length = nI dd := k63 (show ¬ k = 1 by omega)
    obtain ⟨wx, q, eq, hr⟩ : ZW x ∧ ∃ p, s.2.2.1 138 r.length = nI p ∧ rmT (s.2.2.1 104) b true x p 0 := k61
    have hh := rmT_head hr
    have h64 := zw_zn wx
    have e136 : s.1 136 = nI (r.length + 1) := hB.2.2.2.1
    have e1361 : s.1 136 - 1 = nI r.length := by rw [e136]; exact nI_pred r.length
    by_cases cb : b0 < c0
    · rw [if_pos cb] at hQ
      refine eX10_next hst (fun y1 e1 => ?_)
      rw [e1361] at e1
      subst e1
      rw [nI_clamp (by omega), k62, k2]
      refine ⟨inB_n (by omega), inB_n (by omega), fun c => ?_, fun _ => ?_⟩
      · have := (pk_le c0 b0 (A := c0 ≤ b0) (B := True) (fun z => z) (fun _ => trivial) rfl rfl).1 c
        omega
      · refine M_step hst hS2 (fun c q5 => ⟨rfl, fun _ => ?_, fun z => absurd (by rw [q5.z]; decide) z⟩) (fun c q5 => ⟨rfl, fun z => absurd z (by show ¬ (10 : Int32) ≤ 0; decide), fun _ => ⟨rfl, hQ _ ?_⟩⟩)
        · rw [if_neg c] at hQ
          have e130 : (sI s 117 (nI (ct.1 + 1))).1 130 = nI fr.length := hB.2.1
          rw [e130]
          refine bn_eq fr.length 10 (fun cf => ?_) (fun cf => ?_) rfl rfl
          · rw [if_neg cf] at hQ
            have f8 : (sI s 117 (nI (ct.1 + 1))).2.2.1 138 r.length = nI q := eq
            have f9 : (sI s 117 (nI (ct.1 + 1))).2.2.1 139 r.length = nI b0 := k2
            rw [f8, f9]
            refine ⟨inB_n (by omega), inB_n (by omega), M_element hst hr (by omega) (by omega) h108 (by omega) (fun k' v' hkv => ⟨rfl, inB_n (by omega), inB_n (by omega), inB_n o1, inB_n (by omega), ?_⟩)⟩
            have g9 : (psh (sI s 117 (nI (ct.1 + 1))) pl.length k' v').2.2.1 139 r.length + 1 = nI (b0 + 1) := by
              show s.2.2.1 139 r.length + 1 = _
              rw [k2, nI_1]
            have g7 : (psh (sI s 117 (nI (ct.1 + 1))) pl.length k' v').2.2.1 137 r.length = nI k := k1
            have g2 : (psh (sI s 117 (nI (ct.1 + 1))) pl.length k' v').2.2.1 82 pc = nI (P.1 pc).2.2.1 := (o10 (by rw [ho]; decide)).1
            rw [g9, g7, show (nI pc).toNatClampNeg = pc from nI_clamp (by omega), g2]
            have hB2 := ((hB.step c).pu pl.length k' v').setb (b0 + 1)
            have hP2 := ((hP.si (j := 117) (v := nI (ct.1 + 1))).pu hkv).setb (W := r.length) (v := nI (b0 + 1))
            have hS3 : mS fuel s0 (pc + 1) (zel x b0 :: pl) fr ((k, some x, a, b0 + 1, c0, dd, e, p) :: r) sh (ct.1 + 1, ct.2) out (sA (psh (sI s 117 (nI (ct.1 + 1))) pl.length k' v') 139 r.length (nI (b0 + 1))) := ⟨b, hB2, hP2, h105, rfl, h119, hb, h123, h124, h126⟩
            have wz := zw_zel wx b0
            unfold aenter at hQ
            rw [if_neg cf] at hQ
            refine bn_eq k 3 (fun ck => ?_) (fun ck => ?_) rfl rfl
            · have ck4 : k = 4 := by omega
              rw [if_neg ck] at hQ
              obtain ⟨x2, r2, rfl⟩ : ∃ x r, pl = x :: r := by
                have := hk4 ck4
                match pl, this with
                | x :: r, _ => exact ⟨x, r, rfl⟩
              have hpl : r2.length + 1 ≤ 8300 := hpl
              refine M_enters hst (args := [x2, zel x b0]) (rest := r2) hS3 (by show 2 + r2.length ≤ 8900; omega) (fun t ht => ?_) (o15 ho).1 (o15 ho).2 (fun _ => rfl) (by omega) (fun s' q => ⟨rfl, rfl, hQ s' (Or.inl ⟨rfl, q⟩)⟩)
              rcases List.mem_cons.mp ht with rfl | ht
              · exact hzw _ List.mem_cons_self
              · rcases List.mem_cons.mp ht with rfl | ht
                · exact wz
                · cases ht
            · rw [if_pos ck] at hQ
              refine M_enters hst (args := [zel x b0]) (rest := pl) hS3 (by show 1 + pl.length ≤ 8900; omega) (fun t ht => ?_) (o15 ho).1 (o15 ho).2 (fun _ => rfl) (by omega) (fun s' q => ⟨rfl, rfl, hQ s' (Or.inl ⟨rfl, q⟩)⟩)
              rcases List.mem_cons.mp ht with rfl | ht
              · exact wz
              · cases ht
          · rw [if_pos cf, ← h127] at hQ
            exact M_trouble hst h123 ⟨rfl, rfl, hQ _ (Or.inr (mS.tr (a := []) q5 rfl (by decide) (by decide) (by decide)))⟩
        · rw [if_pos c, ← h127]
          exact Or.inr q5
    · rw [if_neg cb] at hQ
      have ebc : b0 = c0 := by omega
      subst ebc
      rcases hk with rfl | rfl
      · rw [if_neg (by decide)] at hQ
        have hlr : (pl.drop (pl.length - dd)).length = dd := by rw [List.length_drop]; omega
        have hla : (pl.take (pl.length - dd)).reverse.length = pl.length - dd := by rw [List.length_reverse, List.length_take]; omega
        have hsp : (pl.take (pl.length - dd)).reverse.reverse ++ pl.drop (pl.length - dd) = pl := by rw [List.reverse_reverse, List.take_append_drop]
        have hwa : ∀ t ∈ (pl.take (pl.length - dd)).reverse, ZW t := fun t ht => hzw t (List.mem_of_mem_take (List.mem_reverse.mp ht))
        have hP0 := hP
        rw [← hsp] at hP0
        have hM : MOk b dd ct.2.1 (pl.take (pl.length - dd)).reverse s := by
          refine ⟨⟨h105, (by have := hB.em.1; omega), by omega, by rw [h108, hla]; congr 1; omega, fun i hi => ?_⟩, by omega, by omega, h119, hmd, h123, hwa⟩
          have := hP0.args i hi
          rw [hlr] at this
          exact this
        refine M_eachEnd hst hM hr wx e136 (by omega) k62 k2 k1 kk63 eq (fun s' q2 => ⟨rfl, hQ s' ?_⟩)
        rw [← h127]
        have hB1 := hB.wset r hB.2.2.1.2
        have hPr := (mPs.drop (pl.length - dd) pl hP).si (j := 136) (v := nI r.length)
        exact mS_fin (s := sI s 136 (nI r.length)) hB1 hPr hb h124 h126 (zkd_each _ _) (by rw [hlr]; exact q2)
      · rw [if_pos rfl] at hQ
        refine eX10_next hst (fun y1 e1 => ?_)
        rw [e1361] at e1
        subst e1
        rw [nI_clamp (by omega), k62, k2, k1]
        refine ⟨inB_n (by omega), inB_n (by omega), fun _ => ⟨inB_n (by omega), fun c => absurd rfl c, fun _ => ?_⟩, fun c => ?_⟩
        · rw [e1361]
          exact ⟨rfl, hQ _ (Or.inl ⟨rfl, b, hB.wset r hB.2.2.1.2, hP.si, h105, h108, h119, hb, h123, h124, h126⟩)⟩
        · exact absurd (Int32.le_refl _) c
theorem D_putat (hst : l.stackTraces = false) (hc : mCode P s0) (hg : aGood P fuel (pc, pl, fr, wy, sh, ct, out, (0, -1, 0))) (hS : mS fuel s0 (pc + 1) pl fr wy sh ct out s) (h127 : s.1 127 = (P.1 pc).2.2.2.2) (ho : (P.1 pc).1 = 13)
    (hQ : ∀ s', mRz fuel s0 (doA P fuel (pc, pl, fr, wy, sh, ct, out, (0, -1, 0))) s' → Q none s') : EvM l E w (d + 9) MX10_does [.ref w.1, .int (nI pc)] s Q := by
  obtain ⟨hpl, hfr, hfr1, hwy, hzw, hmd, -, hfit, -⟩ := hg
  have hpl : pl.length ≤ 8300 := hpl
  have hfr : fr.length ≤ 10 := hfr
  have hfr1 : 1 ≤ fr.length := hfr1
  have hwy : wy.length ≤ 390 := hwy
  have hmd : ct.2.1 ≤ 3000 := hmd
  have hop := hS.code hc hfit.1
  obtain ⟨o1, o2, o3, o4, o5, o6, o7, o8, o9, o10, o11, o12, o13, o14, o15⟩ := id hop
  have hneed := hfit.2.1
  have e : doA P fuel (pc, pl, fr, wy, sh, ct, out, (0, -1, 0)) = aputat (P.1 pc) pc pl fr wy sh ct out := by
    unfold doA
    dsimp only
    rw [ho]
    rfl
  rw [e] at hQ
  have e1 : aNeed (P.1 pc) = if (P.1 pc).2.2.1 = 0 then 2 else 3 := by
    unfold aNeed
    rw [ho]
    rfl
  rw [e1] at hneed
  have ht := o9 (by rw [ho]; decide)
  obtain ⟨p83, p82, p8⟩ := o12 ho
  refine eX10_does hst ⟨inB_n o1, ?_⟩
  rw [nI_clamp (by omega), o2, ho]
  refine ⟨fun c => absurd c (by decide), fun _ => ⟨fun c => absurd c (by decide), fun _ => ⟨fun c => absurd c (by decide), fun _ => ⟨fun c => absurd c (by decide), fun _ => ⟨fun c => absurd c (by decide), fun _ => ⟨fun c => absurd c (by decide), fun _ => ⟨fun _ => ?_, fun c => absurd (by decide) c⟩⟩⟩⟩⟩⟩⟩
  -- the new thing is stored, or a trouble
  have fin : ∀ (b : Nat) (rest : List Th) (x : Th) (zp : Nat ⊕ Th), mBz fuel s0 b fr wy sh ct.1 ct.2.2.1 ct.2.2.2 out s → mPs s b rest → b ≤ 154250 + ct.2.1 → s.1 124 = -1 → (¬ fr = [] → s.1 126 = nI (pc + 1)) → zkd zp → (∀ t, zp = .inr t → ZW t ∧ ¬ zk t = 0) → ∀ s', mput b rest.length ct.2.1 fr.length (P.1 pc).2.1 zp s s' → mRz fuel s0 (match zp with
      | .inl k => (pc + 1, rest, fr, wy, sh, ct, out, (k, s.1 127, 0))
      | .inr v => if 3000 < ct.2.1 + zm v then (pc + 1, rest, fr, wy, sh, (ct.1, ct.2.1 + zm v, ct.2.2), out, (11, s.1 127, 0)) else (pc + 1, rest, aputF fr (P.1 pc).2.1 v, wy, aputS sh (P.1 pc).2.1 v, (ct.1, ct.2.1 + zm v, ct.2.2), out, (0, -1, 0))) s' := by
    intro b rest x zp hB hPr hb h124 h126 hkd hzt s' q
    cases zp with
    | inl k => exact mS_fin hB hPr hb h124 h126 hkd q
    | inr t =>
      obtain ⟨wt, kt⟩ := hzt t rfl
      have q : if 3000 < ct.2.1 + zm t then mop b rest.length ct.2.1 (.inr t) s s' else ∃ s1 b' p, mfr J1 b rest.length s s1 ∧ b ≤ b' ∧ b' ≤ b + zm t ∧ s1.1 105 = nI b' ∧ s1.1 119 = nI (ct.2.1 + zm t) ∧ s1.1 123 = 0 ∧ s1.1 124 = s.1 124 ∧ rmT (s1.2.2.1 104) b' true t p 0 ∧ s1.1 108 = nI rest.length ∧ s' = mst s1 fr.length (P.1 pc).2.1 1 (nI p) := q
      dsimp only
      by_cases c3 : 3000 < ct.2.1 + zm t
      · rw [if_pos c3] at q
        rw [if_pos c3]
        have := mS_fin (pc := pc + 1) hB hPr hb h124 h126 hkd q
        unfold afin at this
        dsimp only at this
        rw [if_pos ⟨c3, kt⟩] at this
        exact this
      · rw [if_neg c3] at q
        rw [if_neg c3]
        obtain ⟨s1, b', p, q1, q2, q3, q4, q5, q6, q7, q8, q9, q10⟩ := q
        rw [q10]
        have hB1 := hB.op q2 q1
        refine Or.inl ⟨rfl, b', hB1.store (Or.inr ⟨kt, rfl, p, rfl, q8⟩) wt hfr1 ht, (hPr.op q2 q1 (Nat.le_refl _)).store, ?_, ?_, ?_, ?_, ?_, ?_, fun c => ?_⟩
        · rw [mst_1]; exact q4
        · rw [mst_1]; exact q9
        · rw [mst_1]; exact q5
        · show b' ≤ 154250 + (ct.2.1 + zm t); omega
        · rw [mst_1]; exact q6
        · rw [mst_1]; exact q7.trans h124
        · rw [mst_1]
          refine (q1.1 126 (by decide)).trans (h126 (fun z => ?_))
          rw [z] at hfr1
          exact absurd hfr1 (by decide)
  have seven : ∀ (b : Nat) (rest : List Th) (kk : Nat) (pp : Int32), mBz fuel s0 b fr wy sh ct.1 ct.2.2.1 ct.2.2.2 out s → mPs s b rest → b ≤ 154250 + ct.2.1 → ¬ kk = 0 → kk < 9 → ∀ s', mfr J1 b rest.length s s' → s'.1 105 = nI b → s'.1 119 = nI ct.2.1 → s'.1 123 = nI kk → s'.1 124 = pp → mRz fuel s0 (pc + 1, rest, fr, wy, sh, ct, out, (kk, pp, 0)) s' := by
    intro b rest kk pp hB hPr hb h0 h9 s' q1 q2 q3 q4 q5
    exact Or.inr ⟨b, hB.op (Nat.le_refl b) q1, hPr.op (Nat.le_refl b) q1 (Nat.le_refl _), q2, q3, by omega, q4, h0, (show kk < 12 by omega), q5, fun c => absurd c (by show ¬ kk = 9; omega)⟩
  by_cases c2 : (P.1 pc).2.2.1 = 0
  · rw [if_pos c2] at hneed p82
    obtain ⟨v, i, r, rfl⟩ : ∃ y x r, pl = y :: x :: r := by
      match pl, hneed with
      | y :: x :: r, _ => exact ⟨y, x, r, rfl⟩
    have hpl : r.length + 1 + 1 ≤ 8300 := hpl
    have hwa : ∀ t ∈ [i, v], ZW t := fun t ht => by
      rcases List.mem_cons.mp ht with rfl | ht
      · exact hzw _ (List.mem_cons_of_mem _ List.mem_cons_self)
      · rcases List.mem_cons.mp ht with rfl | ht
        · exact hzw _ List.mem_cons_self
        · cases ht
    have hS2 := hS
    obtain ⟨b, hB, hP, h105, h108, h119, hb, h123, h124, h126⟩ := hS
    have h108 : s.1 108 = nI (r.length + 1 + 1) := h108
    have hM : MOk b r.length ct.2.1 [i, v] s := ⟨⟨h105, (by have := hB.em.1; omega), (by show r.length + 2 ≤ 8900; omega), h108, fun j hj => mPs.args (args := [i, v]) (rest := r) hP j hj⟩, by omega, by omega, h119, hmd, h123, hwa⟩
    have eA : aputat (P.1 pc) pc (v :: i :: r) fr wy sh ct out = (match aget fr sh (P.1 pc).2.1 with
      | none => (pc + 1, r, fr, wy, sh, ct, out, (7, (P.1 pc).2.2.2.1, 0))
      | some x => match zpu1 x i v with
        | .inl k => (pc + 1, r, fr, wy, sh, ct, out, (k, (P.1 pc).2.2.2.2, 0))
        | .inr v => if 3000 < ct.2.1 + zm v then (pc + 1, r, fr, wy, sh, (ct.1, ct.2.1 + zm v, ct.2.2), out, (11, (P.1 pc).2.2.2.2, 0)) else (pc + 1, r, aputF fr (P.1 pc).2.1 v, wy, aputS sh (P.1 pc).2.1 v, (ct.1, ct.2.1 + zm v, ct.2.2), out, (0, -1, 0))) := by
      unfold aputat
      dsimp only
      rw [if_neg (fun z => z c2)]
      cases aget fr sh (P.1 pc).2.1 with
      | none => rfl
      | some x =>
        dsimp only
        rw [if_neg (fun z => z c2)]
        have hz' : zput1 x ((v :: i :: r).getD 1 (zI 0)) ((v :: i :: r).getD 0 (zI 0)) = zput1 x i v := rfl
        rw [hz']
        unfold zpu1
        cases hz : zput1 x i v with
        | inl kq =>
          obtain ⟨k, q⟩ := kq
          have := zput1_q hz
          subst this
          rfl
        | inr t => rfl
    rw [eA] at hQ
    have hget := hB.get hfr1 ht
    generalize aget fr sh (P.1 pc).2.1 = o at hQ hget
    refine M_putAt1 hst o1 (o8 (by rw [ho]; decide)).1 p82 hM hB.2.1 hfr1 hfr ht hget (fun eo s' q1 q2 q3 q4 q5 => ⟨rfl, hQ s' ?_⟩) (fun x eo s' q => ⟨rfl, hQ s' ?_⟩)
    · rw [eo]
      exact seven b r 7 _ hB hP.2.2 hb (by decide) (by decide) s' q1 q2 q3 q4 (q5.trans p83)
    · rw [eo] at hget
      rw [eo, ← h127]
      exact fin b r x (zpu1 x i v) hB hP.2.2 hb h124 h126 (zkd_pu1 _ _ _) (fun t et => zw_pu1 hget.2 (hzw v List.mem_cons_self) et) s' q
  · rw [if_neg c2] at hneed p82
    obtain ⟨v, j, i, r, rfl⟩ : ∃ z y x r, pl = z :: y :: x :: r := by
      match pl, hneed with
      | z :: y :: x :: r, _ => exact ⟨z, y, x, r, rfl⟩
    have hpl : r.length + 1 + 1 + 1 ≤ 8300 := hpl
    have hwa : ∀ t ∈ [i, j, v], ZW t := fun t ht => by
      refine hzw t ?_
      simp only [List.mem_cons, List.not_mem_nil, or_false] at ht ⊢
      rcases ht with h | h | h
      · exact Or.inr (Or.inr (Or.inl h))
      · exact Or.inr (Or.inl h)
      · exact Or.inl h
    obtain ⟨b, hB, hP, h105, h108, h119, hb, h123, h124, h126⟩ := hS
    have h108 : s.1 108 = nI (r.length + 1 + 1 + 1) := h108
    have hM : MOk b r.length ct.2.1 [i, j, v] s := ⟨⟨h105, (by have := hB.em.1; omega), (by show r.length + 3 ≤ 8900; omega), h108, fun k hk => mPs.args (args := [i, j, v]) (rest := r) hP k hk⟩, by omega, by omega, h119, hmd, h123, hwa⟩
    have eA : aputat (P.1 pc) pc (v :: j :: i :: r) fr wy sh ct out = (match aget fr sh (P.1 pc).2.1 with
      | none => (pc + 1, r, fr, wy, sh, ct, out, (7, (P.1 pc).2.2.2.1, 0))
      | some x => match zput2 x i j v with
          | .inl (k, q) => (pc + 1, r, fr, wy, sh, ct, out, (k, (if q = 0 then (P.1 pc).2.2.2.2 else nI ((P.1 pc).2.2.1 - 1)), 0))
          | .inr v => if 3000 < ct.2.1 + zm v then (pc + 1, r, fr, wy, sh, (ct.1, ct.2.1 + zm v, ct.2.2), out, (11, (P.1 pc).2.2.2.2, 0)) else (pc + 1, r, aputF fr (P.1 pc).2.1 v, wy, aputS sh (P.1 pc).2.1 v, (ct.1, ct.2.1 + zm v, ct.2.2), out, (0, -1, 0))) := by
      unfold aputat
      dsimp only
      rw [if_pos c2]
      cases aget fr sh (P.1 pc).2.1 with
      | none => rfl
      | some x =>
        dsimp only
        rw [if_pos c2]
        rfl
    rw [eA] at hQ
    have hget := hB.get hfr1 ht
    generalize aget fr sh (P.1 pc).2.1 = o at hQ hget
    refine M_putAt2 hst o1 (o8 (by rw [ho]; decide)).1 (by rw [p82]; exact nI_ne_m1 (by omega)) hM hB.2.1 hfr1 hfr ht hget (fun eo s' q1 q2 q3 q4 q5 => ⟨rfl, hQ s' ?_⟩) (fun x eo ez s' q1 q2 q3 q4 q5 => ⟨rfl, hQ s' ?_⟩) (fun x eo ez s' q => ⟨rfl, hQ s' ?_⟩)
    · rw [eo]
      exact seven b r 7 _ hB hP.2.2.2 hb (by decide) (by decide) s' q1 q2 q3 q4 (q5.trans p83)
    · rw [eo]
      dsimp only
      rw [ez]
      exact seven b r 5 _ hB hP.2.2.2 hb (by decide) (by decide) s' q1 q2 q3 q4 (q5.trans p82)
    · rw [eo] at hget
      rw [eo, ← h127]
      have := fin b r x (zpu2 x i j v) hB hP.2.2.2 hb h124 h126 (zkd_pu2 _ _ _ _) (fun t et => zw_pu2 hget.2 et) s' q
      unfold zpu2 at this
      dsimp only
      cases hz : zput2 x i j v with
      | inl kq =>
        obtain ⟨k, q⟩ := kq
        rw [hz] at this ez
        have q0 : q = 0 := by
          rcases zput2_q hz with h | ⟨h1, h2⟩
          · exact h
          · exact absurd (by rw [h1, h2]) ez
        subst q0
        exact this
      | inr t =>
        rw [hz] at this
        exact this
end MX
