/-! THE MODEL: what has come of each -/
section ME1
variable {l : Launch} {E : EN} {w : MO} {d : Nat} {s : MS} {Q : Option Value → MS → Prop} {b n md : Nat}
theorem M_nx220 (hst : l.stackTraces = false) {xs : List Th} (hi : MOk b n md xs s) (hQ : ∀ s', mop b n md (zbuild xs) s s' → Q none s') : ExM l E w (d + 4) MX10_next 220 [some (.ref w.1), none, none, some (.int (nI n)), some (.int 1), some (.int 1), some (.int (nI n))] [] s Q := by
  have ha := hi.acc0
  obtain ⟨⟨m1, m2, m3, m4, m5⟩, hb, hn, hmd, hm3, h0, hw⟩ := hi
  have main : ∀ m i, i + m = xs.length → ExM l E w (d + 4) MX10_next 220 [some (.ref w.1), none, none, some (.int (nI n)), some (.int (fl ((xs.take i).all (fun t => zk t == 0)))), some (.int (fl ((xs.take i).all (fun t => zk t == 1)))), some (.int (nI (n + i)))] [] s Q := by
    intro m
    induction m with
    | zero =>
      intro i hi'
      have hi' : i = xs.length := hi'
      subst hi'
      rw [List.take_length]
      refine vX10_next_220 ?_
      rw [m4]
      refine pk_le _ _ (fun _ => ?_) (fun c => by omega) rfl rfl
      have hzb : zbuild xs = if xs.all (fun t => zk t == 0) = true then zmk (zof 1 xs) else if xs.all (fun t => zk t == 1) = true then zmk (zof 2 xs) else .inl 3 := rfl
      cases e0 : xs.all (fun t => zk t == 0) with
      | true =>
        rw [e0, if_pos rfl] at hzb
        refine ⟨fun c => absurd c (by decide), fun _ => M_bm0 hst (k := 1) ha (Or.inl rfl) (fun _ v hv => ?_) (fun c => absurd c (by decide)) hw hb (by omega) hmd hm3 h0 (fun s' q => ⟨rfl, hQ s' (by rw [hzb]; exact q)⟩)⟩
        have := List.all_eq_true.mp e0 v hv
        simpa using this
      | false =>
        refine ⟨fun _ => ?_, fun c => absurd rfl c⟩
        rw [e0, if_neg (by decide)] at hzb
        cases e1 : xs.all (fun t => zk t == 1) with
        | true =>
          rw [e1, if_pos rfl] at hzb
          refine ⟨fun c => absurd c (by decide), fun _ => M_bm0 hst (k := 2) ha (Or.inr (Or.inl rfl)) (fun c => absurd c (by decide)) (fun _ v hv => ?_) hw hb (by omega) hmd hm3 h0 (fun s' q => ⟨rfl, hQ s' (by rw [hzb]; exact q)⟩)⟩
          have := List.all_eq_true.mp e1 v hv
          simpa using this
        | false =>
          rw [e1, if_neg (by decide)] at hzb
          exact ⟨fun _ => M_tmop hst ha.1 m1 (Nat.le_refl b) (by omega) hmd h0 rfl rfl (fun s' q => ⟨rfl, hQ s' (by rw [hzb]; exact q)⟩), fun c => absurd rfl c⟩
    | succ m ih =>
      intro i hi'
      have nx := ih (i + 1) (by omega)
      rw [all_take_succ _ xs i (by omega), all_take_succ _ xs i (by omega)] at nx
      have hx := m5 i (by omega)
      refine vX10_next_220 ?_
      rw [m4]
      refine pk_le _ _ (fun c => by omega) (fun _ => ?_) rfl rfl
      rw [nI_1, nI_clamp (by omega)]
      have e3 : n + i + 1 = n + (i + 1) := rfl
      rw [e3]
      revert nx hx
      generalize xs.getD i (zI 0) = x
      intro nx hx
      have hki : ∀ Q' : Option Value → MS → Prop, Q' (some (.int (nI (zk x)))) s → EvM l E w (d + 3) MX10_kindAt [.ref w.1, .int (nI (n + i))] s Q' := fun Q' q => M_kindAt hst hx (by omega) (by omega) q
      have hsk : s.2.2.1 106 (n + i) = 0 ↔ zk x = 0 := by
        rcases hx with ⟨a1, a2, _⟩ | ⟨a1, a2, _⟩
        · exact ⟨fun _ => a1, fun _ => a2⟩
        · exact ⟨fun c => absurd (c.symm.trans a2) (by decide), fun c => absurd c a1⟩
      have hz1 : nI (zk x) = 1 ↔ zk x = 1 := by
        rcases zk_c x with e | e | e | e <;> rw [e] <;> decide
      generalize (xs.take i).all (fun t => zk t == 0) = A at nx
      generalize (xs.take i).all (fun t => zk t == 1) = B at nx
      by_cases c0 : zk x = 0
      · have c1 : ¬ zk x = 1 := by omega
        rw [show (zk x == 0) = true by simpa using c0, show (zk x == 1) = false by simpa using c1, Bool.and_true, Bool.and_false] at nx
        cases A with
        | true =>
          refine ⟨fun c => absurd c (by decide), fun _ => ⟨inB_n (by omega), fun c => absurd (hsk.mpr c0) c, fun _ => ?_⟩⟩
          cases B with
          | true => exact ⟨fun c => absurd c (by decide), fun _ => hki _ ⟨_, rfl, fun _ => nx, fun c => absurd (hz1.mp c) c1⟩⟩
          | false => exact ⟨fun _ => nx, fun c => absurd rfl c⟩
        | false =>
          refine ⟨fun _ => ?_, fun c => absurd rfl c⟩
          cases B with
          | true => exact ⟨fun c => absurd c (by decide), fun _ => hki _ ⟨_, rfl, fun _ => nx, fun c => absurd (hz1.mp c) c1⟩⟩
          | false => exact ⟨fun _ => nx, fun c => absurd rfl c⟩
      · rw [show (zk x == 0) = false by simpa using c0, Bool.and_false] at nx
        by_cases c1 : zk x = 1
        · rw [show (zk x == 1) = true by simpa using c1, Bool.and_true] at nx
          cases A with
          | true =>
            refine ⟨fun c => absurd c (by decide), fun _ => ⟨inB_n (by omega), fun _ => ?_, fun c => absurd (hsk.mp c) c0⟩⟩
            cases B with
            | true => exact ⟨fun c => absurd c (by decide), fun _ => hki _ ⟨_, rfl, fun c => absurd (hz1.mpr c1) c, fun _ => nx⟩⟩
            | false => exact ⟨fun _ => nx, fun c => absurd rfl c⟩
          | false =>
            refine ⟨fun _ => ?_, fun c => absurd rfl c⟩
            cases B with
            | true => exact ⟨fun c => absurd c (by decide), fun _ => hki _ ⟨_, rfl, fun c => absurd (hz1.mpr c1) c, fun _ => nx⟩⟩
            | false => exact ⟨fun _ => nx, fun c => absurd rfl c⟩
        · rw [show (zk x == 1) = false by simpa using c1, Bool.and_false] at nx
          cases A with
          | true =>
            refine ⟨fun c => absurd c (by decide), fun _ => ⟨inB_n (by omega), fun _ => ?_, fun c => absurd (hsk.mp c) c0⟩⟩
            cases B with
            | true => exact ⟨fun c => absurd c (by decide), fun _ => hki _ ⟨_, rfl, fun _ => nx, fun c => absurd (hz1.mp c) c1⟩⟩
            | false => exact ⟨fun _ => nx, fun c => absurd rfl c⟩
          | false =>
            refine ⟨fun _ => ?_, fun c => absurd rfl c⟩
            cases B with
            | true => exact ⟨fun c => absurd c (by decide), fun _ => hki _ ⟨_, rfl, fun _ => nx, fun c => absurd (hz1.mp c) c1⟩⟩
            | false => exact ⟨fun _ => nx, fun c => absurd rfl c⟩
  exact main xs.length 0 (by omega)
/-- the end of each: a way less, and the values become a thing -/
theorem M_eachEnd (hst : l.stackTraces = false) {xs : List Th} {x : Th} {p c W : Nat} {x1 : Int32} (hi : MOk b n md xs s) (hr : rmT (s.2.2.1 104) b true x p 0) (wx : ZW x) (hW : s.1 136 = nI (W + 1)) (hW4 : W < 400) (h140 : s.2.2.1 140 W = nI c) (h139 : s.2.2.1 139 W = nI c) (h137 : s.2.2.1 137 W = 3) (h141 : s.2.2.1 141 W = nI n) (h138 : s.2.2.1 138 W = nI p) (hQ : ∀ s', mop b n md (zeach x xs) (sI s 136 (nI W)) s' → Q none s') : EvM l E w (d + 5) MX10_next [.ref w.1, .int x1] s Q := by
  have hh := rmT_head hr
  have kx := zk_le x
  have hC := hi.ctx
  have hn := hC.2.1
  have hb := hC.1
  have hi' : MOk b n md xs (sI s 136 (nI W)) := hi
  have hsp : s.1 108 = nI (n + xs.length) := hi.1.2.2.2.1
  have hxl : n + xs.length ≤ 8900 := hi.1.2.2.1
  refine eX10_next hst fun y1 e1 => ?_
  rw [hW, nI_pred] at e1
  subst e1
  rw [nI_clamp (by omega), h140, h139, h137, h138, hW, nI_pred, nI_clamp (by omega), hh.2.1, hsp]
  refine ⟨inB_n hW4, inB_n hW4, fun _ => ⟨inB_n hW4, fun _ => ⟨inB_n hW4, fun y2 e2 => ⟨inB_n hW4, inB_n (by omega), ?_⟩⟩, fun c => absurd c (by decide)⟩, fun c => absurd (Int32.le_refl _) c⟩
  rw [h141] at e2
  subst e2
  have ha := hi'.acc0
  have hC' := hi'.ctx
  have b3 : zk x = 3 → EvM l E w (d + 4) MX10_builds [.ref w.1, .int 3, .int (nI n)] (sI s 136 (nI W)) (fun r s1 => r = none ∧ Q none s1) := by
    intro c
    have ez : zeach x xs = zmk (zP xs) := if_pos c
    rw [ez] at hQ
    exact K_bm hst hC' (k := 3) ha (Or.inr (Or.inr rfl)) (fun c => absurd c (by decide)) (fun c => absurd c (by decide)) hi'.2.2.2.2.2.2 hQ
  refine bn_eq (zk x) 3 (fun c3 => ?_) b3 rfl rfl
  by_cases hne : xs = []
  · subst hne
    have hz : zeach x [] = .inr (if zk x = 1 then zR [] else zT []) := by
      unfold zeach
      rw [if_neg c3, if_pos rfl]
    rw [hz] at hQ
    have hlt : ¬ nI n < nI (n + ([] : List Th).length) := nI_nlt (Nat.le_refl _) (by show n < 2 ^ 31; omega)
    refine ⟨fun c => absurd c hlt, fun _ => ⟨inB_n hW4, inB_n (by omega), ?_⟩⟩
    refine bn_eq (zk x) 1 (fun c1 => ⟨fun c => absurd c hlt, fun _ => ⟨inB_n hW4, inB_n (by omega), ?_⟩⟩) (fun c1 => ⟨fun c => absurd c hlt, fun _ => ⟨inB_n hW4, inB_n (by omega), ?_⟩⟩) rfl rfl
    · refine bn_eq (zk x) 2 (fun c2 => by omega) (fun c2 => ?_) rfl rfl
      rw [if_neg c1] at hQ
      refine vX10_next_220 ?_
      have e108 : (sI s 136 (nI W)).1 108 = nI (n + ([] : List Th).length) := hsp
      rw [e108]
      refine pk_le n n (fun _ => ⟨fun _ => ⟨fun c => absurd c (by decide), fun _ => ?_⟩, fun c => absurd rfl c⟩) (fun c => by omega) rfl rfl
      refine K_tab hst hC' (rs := []) ha (fun r hr => by cases hr) (by omega) (by omega) (fun s' q => hQ s' ?_)
      rw [zmk_ok (show ZW (zT []) from ⟨by decide, by decide, fun r hr => by cases hr⟩)] at q
      exact q
    · have fin : ∀ a5, ExM l E w (d + 5) MX10_next 220 [some (.ref w.1), none, none, some (.int (nI n)), some (.int 1), some (.int a5), some (.int (nI n))] [] (sI s 136 (nI W)) Q := by
        intro a5
        rw [if_pos c1] at hQ
        refine vX10_next_220 ?_
        have e108 : (sI s 136 (nI W)).1 108 = nI (n + ([] : List Th).length) := hsp
        rw [e108]
        refine pk_le n n (fun _ => ⟨fun c => absurd c (by decide), fun _ => ?_⟩) (fun c => by omega) rfl rfl
        refine K_row hst hC' (is := []) ha (fun s' q => hQ s' ?_)
        rw [zmk_ok (show ZW (zR []) from Nat.zero_le 64)] at q
        exact q
      exact bn_eq (zk x) 2 (fun _ => fin _) (fun _ => fin _) rfl rfl
  · have hz : zeach x xs = zbuild xs := by
      unfold zeach
      rw [if_neg c3, if_neg hne]
    rw [hz] at hQ
    have hlen : 0 < xs.length := by
      cases xs with
      | nil => exact absurd rfl hne
      | cons a r => exact Nat.succ_pos _
    have hlt : nI n < nI (n + xs.length) := nI_lt (by omega) (by omega)
    exact ⟨fun _ => ⟨fun _ => M_nx220 hst hi' hQ, fun c => absurd hlt c⟩, fun c => absurd hlt c⟩
end ME1
