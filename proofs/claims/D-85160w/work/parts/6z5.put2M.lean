theorem zput1_bad {x i v : Th} (h : zk x = 0 ∨ zk i ≠ 0 ∨ (zk x = 1 ∧ zk v ≠ 0) ∨ (zk x = 2 ∧ zk v ≠ 1)) : zput1 x i v = .inl (3, 0) := by unfold zput1; rw [if_pos h]
theorem zput1_no {x i v : Th} (h : ¬ (zk x = 0 ∨ zk i ≠ 0 ∨ (zk x = 1 ∧ zk v ≠ 0) ∨ (zk x = 2 ∧ zk v ≠ 1))) (hz : zix (zv i) (zn x) = none) : zput1 x i v = .inl (5, 0) := by unfold zput1; rw [if_neg h, hz]
/-- what comes of it, without the place of a trouble -/
def zpu1 (x i v : Th) : Nat ⊕ Th := match zput1 x i v with
  | .inl (e, _) => .inl e
  | .inr t => .inr t
theorem zpu1_ok {x i v : Th} {k : Nat} (h : ¬ (zk x = 0 ∨ zk i ≠ 0 ∨ (zk x = 1 ∧ zk v ≠ 0) ∨ (zk x = 2 ∧ zk v ≠ 1))) (hz : zix (zv i) (zn x) = some k) : zpu1 x i v = zmk (zof (zk x) ((ze x).set k v)) := by
  unfold zpu1 zput1
  rw [if_neg h, hz]
  dsimp only
  cases zmk (zof (zk x) ((ze x).set k v)) <;> rfl
/-- a name's value -/
def mVar (h : Nat → Int32) (b : Nat) (k v : Int32) : Option Th → Prop
  | none => k = 2
  | some t => rmV h b k v t ∧ ZW t
section MP
variable {l : Launch} {E : EN} {w : MO} {d : Nat} {s s0 : MS} {Q : Option Value → MS → Prop} {b n md b1 D tg : Nat}
theorem M_putAt1 (hst : l.stackTraces = false) {kk : Nat} {i v : Th} {o : Option Th} (hkk : kk < 8000) (h81 : s.2.2.1 81 kk = nI tg) (h82 : s.2.2.1 82 kk = -1) (hi : MOk b n md [i, v] s) (hD : s.1 130 = nI D) (hD1 : 1 ≤ D) (hD2 : D ≤ 10) (ht : tg < 22) (ho : mVar (s.2.2.1 104) b (mgK s D tg) (mgV s D tg) o)
    (h7 : o = none → ∀ s', mfr J1 b n s s' → s'.1 105 = nI b → s'.1 119 = nI md → s'.1 123 = 7 → s'.1 124 = s.2.2.1 83 kk → Q none s') (hQ : ∀ x, o = some x → ∀ s', mput b n md D tg (zpu1 x i v) s s' → Q none s') : EvM l E w (d + 5) MX10_putAt [.ref w.1, .int (nI kk)] s Q := by
  have ha := hi.acc
  have hC := hi.ctx
  have hn := hC.2.1
  have hb := hC.1
  obtain ⟨m4, hx, hy, wi, wv⟩ := hi.two
  refine eX10_putAt hst ?_
  rw [nI_clamp (by omega), h82, h81, m4, nI_pred, nI_s2]
  refine ⟨inB_n hkk, fun _ => ⟨inB_n hkk, fun y1 e1 y2 e2 y3 e3 => ?_⟩, fun c => absurd rfl c⟩
  subst e1 e2 e3
  have hD' : (sI s 108 (nI n)).1 130 = nI D := hD
  refine M_kindOf hst hD' hD1 hD2 ht ⟨_, rfl, ?_⟩
  have eK : mgK (sI s 108 (nI n)) D tg = mgK s D tg := rfl
  have eV : mgV (sI s 108 (nI n)) D tg = mgV s D tg := rfl
  rw [eK]
  cases o with
  | none =>
    have ho : mgK s D tg = 2 := ho
    rw [ho]
    refine ⟨fun c => absurd rfl c, fun _ => ⟨inB_n hkk, M_trouble hst hC.2.2.2.2 ⟨rfl, h7 rfl _ ?_ hi.1.1 hC.2.2.1 rfl ?_⟩⟩⟩
    · exact (ha.1.mono (J' := J1)).trans ((mfr.sI J1 b n _ 123 _).trans (mfr.sI J1 b n _ 124 _))
    · rfl
  | some x =>
    obtain ⟨hv, wx⟩ := ho
    have hQ := hQ x rfl
    have kx := zk_le x
    have ki := zk_le i
    have kv := zk_le v
    have k01 : ¬ mgK s D tg = 2 := by
      rcases hv with ⟨_, q, _⟩ | ⟨_, q, _⟩ <;> rw [q] <;> decide
    refine ⟨fun _ => M_valueOf hst hD' hD1 hD2 ht ⟨_, rfl, M_kindOf hst hD' hD1 hD2 ht ⟨_, rfl, ?_⟩⟩, fun c => absurd c k01⟩
    rw [eK, eV]
    have hskv : s.2.2.1 106 (n + 1) = 0 ↔ zk v = 0 := by
      rcases hy with ⟨a1, a2, _⟩ | ⟨a1, a2, _⟩
      · exact ⟨fun _ => a1, fun _ => a2⟩
      · exact ⟨fun c => absurd (c.symm.trans a2) (by decide), fun c => absurd c a1⟩
    have hski : s.2.2.1 106 n = 0 ↔ zk i = 0 := by
      rcases hx with ⟨a1, a2, _⟩ | ⟨a1, a2, _⟩
      · exact ⟨fun _ => a1, fun _ => a2⟩
      · exact ⟨fun c => absurd (c.symm.trans a2) (by decide), fun c => absurd c a1⟩
    -- from 236 on
    have h236 : ∀ (g : Bool) (p : Nat), (g = true → ¬ zk x = 0 ∧ rmT (s.2.2.1 104) b true x p 0) → (g = true ↔ ¬ (zk x = 0 ∨ zk i ≠ 0 ∨ (zk x = 1 ∧ zk v ≠ 0) ∨ (zk x = 2 ∧ zk v ≠ 1))) → ∀ a6 : Int32, (g = true → a6 = nI p) → ExM l E w (d + 5) MX10_putAt 236 [some (.ref w.1), some (.int (nI kk)), some (.int 0), some (.int (nI tg)), some (.int (nI (n + 1))), some (.int (nI n)), some (.int a6), some (.int (nI (zk x))), some (.int (fl g)), none, none, none, none, none, none] [] (sI s 108 (nI n)) Q := by
      intro g p hg1 hg a6 ea6
      cases g with
      | false =>
        refine vX10_putAt_236 ⟨fun c => absurd rfl c, fun _ => K_tr hst hC ha (by omega) 3 rfl (fun s' q => hQ s' ?_)⟩
        have hbad := Decidable.not_not.mp (fun z => by have := hg.mpr z; cases this)
        unfold zpu1
        rw [zput1_bad hbad]
        exact q
      | true =>
        obtain ⟨x0, hr⟩ := hg1 rfl
        have hgood := hg.mp rfl
        rw [ea6 rfl]
        have i0 : zk i = 0 := Decidable.not_not.mp (fun z => hgood (Or.inr (Or.inl z)))
        have hvi : s.2.2.1 107 n = zv i := by rw [zk0 i0] at hx; exact (rmV.int hx).2
        refine vX10_putAt_236 ⟨fun _ => ⟨inB_n (by omega), fun y1 e1 => ?_⟩, fun c => absurd c (by decide)⟩
        have e1 : y1 = zv i := by rw [e1, nI_clamp (by omega)]; exact hvi
        have bad : zix (zv i) (zn x) = none → ∀ s', mop b n md (.inl 5) s s' → Q none s' := by
          intro hz s' q
          refine hQ s' ?_
          unfold zpu1
          rw [zput1_no hgood hz]
          exact q
        have h64 := zw_zn wx
        refine ⟨fun c => ?_, fun c => ?_⟩
        · rw [e1] at c
          exact K_tr hst hC ha (by omega) 5 rfl (bad (if_pos c))
        · obtain ⟨z, hz1, hz2⟩ := nI_of c
          rw [e1] at hz2 c
          have hz3 : (zv i).toNatClampNeg = z := by rw [hz2]; exact nI_clamp hz1
          refine M_sizeA hst ha hr (by omega) ⟨_, rfl, pk_lt z (zn x) (fun c2 => ?_) (fun c2 => ?_) (by rw [e1, hz2]) rfl hz1⟩
          · refine ⟨inB_n (by omega), fun y5 e5 => ⟨inB_n (by omega), fun y6 e6 => ⟨fun _ => ?_, fun c => absurd rfl c⟩⟩⟩
            rw [nI_clamp (by omega)] at e5 e6
            have e5 : y5 = s.2.2.1 106 (n + 1) := e5
            have e6 : y6 = s.2.2.1 107 (n + 1) := e6
            have hok := zpu1_ok hgood (show zix (zv i) (zn x) = some z by unfold zix; rw [if_neg c, hz3, if_pos c2])
            rw [hok] at hQ
            rw [e1, hz2]
            have hls : ((ze x).set z v).length = zn x := by rw [List.length_set, zn_ze]
            refine M_put433 hst hC (b1 := b) hr wx wv c2 (fun c => ?_) (fun c => ?_) hD hD1 hD2 ht (by omega) (fun _ => ?_) hQ (zn x) 0 _ (by omega) (by rw [e5, e6]; exact hy) (by rw [List.take_zero]; exact ha)
            · exact Decidable.not_not.mp (fun z => hgood (Or.inr (Or.inr (Or.inl ⟨c, z⟩))))
            · exact Decidable.not_not.mp (fun z => hgood (Or.inr (Or.inr (Or.inr ⟨c, z⟩))))
            · have := zm_zof (k := zk x) ((ze x).set z v) (by omega)
              omega
          · exact K_tr hst hC ha (by omega) 5 rfl (bad (by unfold zix; rw [if_neg c, hz3, if_neg (by omega)]))
    by_cases x0 : zk x = 0
    · have hk0 : mgK s D tg = 0 := by
        rcases hv with ⟨_, q, _⟩ | ⟨q, _⟩
        · exact q
        · exact absurd x0 q
      rw [hk0]
      refine ⟨fun c => absurd rfl c, fun _ => ?_⟩
      have ek : nI (zk x) = 0 := by rw [x0]; rfl
      have := h236 false 0 (fun c => by cases c) ⟨fun z => (by cases z), fun z => absurd (Or.inl x0) z⟩ (mgV s D tg) (fun c => by cases c)
      rw [ek] at this
      refine vX10_putAt_128 ⟨fun _ => ⟨fun _ => ⟨fun _ => this, fun c => absurd c (by decide)⟩, fun c => absurd c (by decide)⟩, fun c => absurd rfl c⟩
    · obtain ⟨hk1, p, ep, hr⟩ := hv.thing x0
      have hh := rmT_head hr
      rw [hk1, ep]
      refine ⟨fun _ => ⟨inB_n (by omega), fun y10 e10 => ?_⟩, fun c => absurd c (by decide)⟩
      have e10 : y10 = nI (zk x) := by rw [e10, nI_clamp (by omega)]; exact hh.2.1
      subst e10
      have h128 : ∀ g0 : Bool, (g0 = true ↔ zk i = 0) → ExM l E w (d + 5) MX10_putAt 128 [some (.ref w.1), some (.int (nI kk)), some (.int 0), some (.int (nI tg)), some (.int (nI (n + 1))), some (.int (nI n)), some (.int (nI p)), some (.int (nI (zk x))), none, none, none, none, none, none, none] [.int (fl g0)] (sI s 108 (nI n)) Q := by
        intro g0 hg0
        refine vX10_putAt_128 ⟨fun _ => ?_, fun c => absurd rfl c⟩
        refine bn_eq (zk x) 1 (fun c1 => bn_eq (zk x) 2 (fun c2 => ?_) (fun c2 => ?_) rfl rfl) (fun c1 => ?_) rfl rfl
        · refine h236 g0 p (fun _ => ⟨x0, hr⟩) ?_ (nI p) (fun _ => rfl)
          rw [hg0]; omega
        · cases g0 with
          | false =>
            refine ⟨fun _ => h236 false p (fun c => by cases c) ⟨fun z => (by cases z), fun z => absurd ?_ z⟩ (nI p) (fun _ => rfl), fun c => absurd rfl c⟩
            have : ¬ zk i = 0 := fun z => by have := hg0.mpr z; cases this
            exact Or.inr (Or.inl this)
          | true =>
            have i0 := hg0.mp rfl
            refine ⟨fun c => absurd c (by decide), fun _ => M_kindAt hst hy (by omega) (by omega) ⟨_, rfl, bn_eq (zk v) 1 (fun cv => ?_) (fun cv => ?_) rfl rfl⟩⟩
            · exact h236 false p (fun c => by cases c) ⟨fun z => (by cases z), fun z => absurd (Or.inr (Or.inr (Or.inr ⟨c2, cv⟩))) z⟩ (nI p) (fun _ => rfl)
            · exact h236 true p (fun _ => ⟨x0, hr⟩) ⟨fun _ => by omega, fun _ => rfl⟩ (nI p) (fun _ => rfl)
        · cases g0 with
          | false =>
            refine ⟨fun _ => h236 false p (fun c => by cases c) ⟨fun z => (by cases z), fun z => absurd ?_ z⟩ (nI p) (fun _ => rfl), fun c => absurd rfl c⟩
            have : ¬ zk i = 0 := fun z => by have := hg0.mpr z; cases this
            exact Or.inr (Or.inl this)
          | true =>
            have i0 := hg0.mp rfl
            refine ⟨fun c => absurd c (by decide), fun _ => ⟨inB_n (by omega), ?_⟩⟩
            rw [nI_clamp (by omega)]
            have e106 : (sI s 108 (nI n)).2.2.1 106 (n + 1) = s.2.2.1 106 (n + 1) := rfl
            rw [e106, hskv]
            refine ⟨fun cv => ?_, fun cv => ?_⟩
            · exact h236 false p (fun c => by cases c) ⟨fun z => (by cases z), fun z => absurd (Or.inr (Or.inr (Or.inl ⟨c1, cv⟩))) z⟩ (nI p) (fun _ => rfl)
            · exact h236 true p (fun _ => ⟨x0, hr⟩) ⟨fun _ => by omega, fun _ => rfl⟩ (nI p) (fun _ => rfl)
      refine pk_le (zk x) 0 (fun c => by omega) (fun _ => ⟨inB_n (by omega), ?_⟩) rfl rfl
      rw [nI_clamp (by omega)]
      have e106 : (sI s 108 (nI n)).2.2.1 106 n = s.2.2.1 106 n := rfl
      rw [e106, hski]
      exact ⟨fun c => h128 false ⟨fun z => (by cases z), fun z => absurd z c⟩, fun c => h128 true ⟨fun _ => c, fun _ => rfl⟩⟩
end MP
