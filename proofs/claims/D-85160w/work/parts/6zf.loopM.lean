/-! THE MODEL: run's loop does as the flat machine does -/
section ML
variable {l : Launch} {E : EN} {w : MO} {d : Nat} {Q : Option Value → MS → Prop} {P : Pg} {fuel : Nat} {s0 s : MS} {pc : Nat} {pl : List Th} {fr : List Fm} {wy : List Wy} {sh : Nat → Option Th} {ct : Ct} {out : List Int32}
theorem M_does (hst : l.stackTraces = false) (hc : mCode P s0) (hg : aGood P fuel (pc, pl, fr, wy, sh, ct, out, (0, -1, 0))) (hS : mS fuel s0 (pc + 1) pl fr wy sh ct out s) (h127 : s.1 127 = (P.1 pc).2.2.2.2)
    (hQ : ∀ s', mRz fuel s0 (doA P fuel (pc, pl, fr, wy, sh, ct, out, (0, -1, 0))) s' → Q none s') : EvM l E w (d + 9) MX10_does [.ref w.1, .int (nI pc)] s Q := by
  have hop := hS.code hc hg.2.2.2.2.2.2.2.1.1
  have h25 := hop.2.2.1
  have h0 : ¬ (P.1 pc).1 = 0 := hg.2.2.2.2.2.2.2.1.1
  by_cases hw : 4 ≤ (P.1 pc).1 ∧ (P.1 pc).1 ≤ 10
  · exact D_works hst hc hg hS h127 hw hQ
  · rcases (show ((P.1 pc).1 = 1 ∨ (P.1 pc).1 = 16) ∨ (P.1 pc).1 = 2 ∨ (P.1 pc).1 = 3 ∨ (P.1 pc).1 = 11 ∨ (P.1 pc).1 = 12 ∨ (P.1 pc).1 = 13 ∨ (P.1 pc).1 = 14 ∨ (P.1 pc).1 = 15 ∨ (P.1 pc).1 = 17 ∨ (P.1 pc).1 = 18 ∨ (P.1 pc).1 = 19 ∨ (P.1 pc).1 = 20 ∨ (P.1 pc).1 = 21 ∨ (P.1 pc).1 = 22 ∨ (P.1 pc).1 = 23 ∨ (P.1 pc).1 = 24 by omega) with h | h | h | h | h | h | h | h | h | h | h | h | h | h | h | h
    · exact D_step hst hc hg hS h127 h hQ
    · exact D_int hst hc hg hS h127 h hQ
    · exact D_get hst hc hg hS h127 h hQ
    · exact D_next hst hc hg hS h127 h hQ
    · exact D_put hst hc hg hS h127 h hQ
    · exact D_putat hst hc hg hS h127 h hQ
    · exact D_ask hst hc hg hS h127 h hQ
    · exact D_goto hst hc hg hS h127 h hQ
    · exact D_forin hst hc hg hS h127 h hQ
    · exact D_fornext hst hc hg hS h127 h hQ
    · exact D_says hst hc hg hS h127 h hQ
    · exact D_gives hst hc hg hS h127 h hQ
    · exact D_raises hst hc hg hS h127 h hQ
    · exact D_drop hst hc hg hS h127 h hQ
    · exact D_tries hst hc hg hS h127 h hQ
    · exact D_tried hst hc hg hS h127 h hQ
end ML
/-- in a trouble the calls are as they were -/
def TrL (fr : List Fm) (wy : List Wy) (m : Nat) (s : AS) : Prop := ¬ (aT s).1 = 0 → s.2.2.1 = fr ∧ s.2.2.2.1.length ≤ wy.length ∧ ((aT s).1 ≤ 9 → s.2.2.2.2.2.1.2.1 = m)
section TL
variable {fr fr' : List Fm} {wy wy' : List Wy} {m pc : Nat} {pl : List Th} {sh : Nat → Option Th} {ct : Ct} {out : List Int32} {p q : Int32} {tr : Nat × Int32 × Int32} {u : Wy}
theorem TrL_0 : TrL fr wy m (pc, pl, fr', wy', sh, ct, out, (0, p, q)) := fun h => absurd rfl h
theorem TrL_k : TrL fr wy ct.2.1 (pc, pl, fr, wy, sh, ct, out, tr) := fun _ => ⟨rfl, Nat.le_refl _, fun _ => rfl⟩
theorem TrL_s {n : Nat} : TrL fr wy ct.2.1 (pc, pl, fr, wy, sh, (n, ct.2), out, tr) := fun _ => ⟨rfl, Nat.le_refl _, fun _ => rfl⟩
theorem TrL_t : TrL fr (u :: wy) ct.2.1 (pc, pl, fr, wy, sh, ct, out, tr) := fun _ => ⟨rfl, Nat.le_succ _, fun _ => rfl⟩
theorem TrL_11 : TrL fr wy m (pc, pl, fr, wy, sh, ct, out, (11, p, q)) := fun _ => ⟨rfl, Nat.le_refl _, fun h => absurd h (by show ¬ 11 ≤ 9; decide)⟩
theorem TrL_11t : TrL fr (u :: wy) m (pc, pl, fr, wy, sh, ct, out, (11, p, q)) := fun _ => ⟨rfl, Nat.le_succ _, fun h => absurd h (by show ¬ 11 ≤ 9; decide)⟩
theorem TrL_i {c : Prop} {D : Decidable c} {a b : AS} (h1 : TrL fr wy m a) (h2 : TrL fr wy m b) : TrL fr wy m (@ite _ c D a b) := by
  split
  · exact h1
  · exact h2
theorem TrL_fin (r : Nat ⊕ Th) : TrL fr wy ct.2.1 (afin pc r pl fr wy sh ct out p) := by
  unfold afin
  cases r with
  | inl k => exact TrL_k
  | inr v => exact TrL_i TrL_11 TrL_0
theorem TrL_finS (r : Nat ⊕ Th) {n : Nat} : TrL fr wy ct.2.1 (afin pc r pl fr wy sh (n, ct.2) out p) := TrL_fin (ct := (n, ct.2)) r
theorem TrL_fint (r : Nat ⊕ Th) : TrL fr (u :: wy) ct.2.1 (afin pc r pl fr wy sh ct out p) := by
  unfold afin
  cases r with
  | inl k => exact TrL_t
  | inr v => exact TrL_i TrL_11t TrL_0
theorem TrL_ent (P : Pg) (f n bk : Nat) : TrL fr wy ct.2.1 (aenter P f n bk pl fr wy sh ct out p) := by
  unfold aenter
  exact TrL_i TrL_k TrL_0
theorem doA_trl (P : Pg) (fuel : Nat) (hz : tr = (0, -1, 0)) : TrL fr wy ct.2.1 (doA P fuel (pc, pl, fr, wy, sh, ct, out, tr)) := by
  subst hz
  unfold doA
  dsimp only
  refine TrL_i (TrL_i TrL_k TrL_0) (TrL_i TrL_0 (TrL_i ?_ (TrL_i (TrL_i TrL_k ?_) (TrL_i ?_ (TrL_i TrL_0 (TrL_i ?_ (TrL_i (TrL_i TrL_k TrL_0) (TrL_i TrL_0 (TrL_i (TrL_i TrL_k TrL_0) (TrL_i ?_ (TrL_i TrL_0 (TrL_i ?_ (TrL_i TrL_k (TrL_i TrL_0 (TrL_i TrL_0 TrL_0)))))))))))))))
  · cases aget fr sh (P.1 pc).2.1 with
    | none => exact TrL_k
    | some v => exact TrL_0
  · unfold aworks
    exact TrL_i (TrL_fin (ct := (ct.1 + 1, ct.2)) _) (TrL_i (TrL_fin (ct := (ct.1 + 1, ct.2)) _) (TrL_i (TrL_fin (ct := (ct.1 + 1, ct.2)) _) (TrL_i (TrL_fin (ct := (ct.1 + 1, ct.2)) _) (TrL_i (TrL_fin (ct := (ct.1 + 1, ct.2)) _) (TrL_i (TrL_ent (ct := (ct.1 + 1, ct.2)) _ _ _ _) (TrL_i TrL_s TrL_0))))))
  · unfold anext
    cases wy with
    | nil => exact TrL_0
    | cons u r =>
      obtain ⟨k, t, a, b, c, dd, e, p⟩ := u
      dsimp only
      refine TrL_i (TrL_i TrL_k (TrL_i TrL_s ?_)) (TrL_i TrL_0 (TrL_fint _))
      exact fun h => TrL_ent (ct := (ct.1 + 1, ct.2)) _ _ _ _ h
  · unfold aputat
    dsimp only
    cases aget fr sh (P.1 pc).2.1 with
    | none => exact TrL_k
    | some x =>
      dsimp only
      split
      · exact TrL_k
      · exact TrL_i TrL_11 TrL_0
  · unfold afornext
    refine TrL_i TrL_k ?_
    cases wy with
    | nil => exact TrL_0
    | cons u r =>
      obtain ⟨k, t, a, b, c, dd, e, p⟩ := u
      exact TrL_i TrL_0 TrL_0
  · cases fr with
    | nil => exact TrL_0
    | cons u r =>
      obtain ⟨vr, base, bk, ws⟩ := u
      exact TrL_0
end TL
section ML
variable {l : Launch} {E : EN} {w : MO} {d : Nat} {Q : Option Value → MS → Prop} {P : Pg} {fuel : Nat} {s0 s : MS}
/-- one time through run's loop -/
theorem M_round (hst : l.stackTraces = false) (hc : mCode P s0) {a2 : Int32} (σ : AS) (hg : aGood P fuel σ) (hR : mRz fuel s0 σ s) (hQ : ∀ s', mRz fuel s0 (stA P fuel σ) s' → ExM l E w (d + 10) MX10_run 258 [some (.ref w.1), none, some (.int a2), none, none, none] [] s' Q) : ExM l E w (d + 10) MX10_run 258 [some (.ref w.1), none, some (.int a2), none, none, none] [] s Q := by
  obtain ⟨pc, pl, fr, wy, sh, ct, out, tr⟩ := σ
  obtain ⟨hpl, hfr, hfr1, hwy, hzw, hmd, htr, hfit, htk⟩ := id hg
  have htr : tr = (0, -1, 0) := htr
  subst htr
  have hfr : fr.length ≤ 10 := hfr
  have hfr1 : 1 ≤ fr.length := hfr1
  have hwy : wy.length ≤ 390 := hwy
  have hmd : ct.2.1 ≤ 3000 := hmd
  have hfne : ¬ fr = [] := fun c => by rw [c] at hfr1; exact absurd hfr1 (by decide)
  rcases hR with ⟨_, hS⟩ | hT
  · have hop := hS.code hc hfit.1
    obtain ⟨b, hB, hP, h105, h108, h119, hb, h123, h124, h126⟩ := hS
    have h126 := h126 hfne
    refine vX10_run_258 ⟨fun c => ?_, fun _ => ⟨fun c => absurd h123 c, fun _ y1 e1 => ?_⟩⟩
    · exfalso
      rw [hB.2.1] at c
      have := (pk_le fr.length 0 (A := fr.length ≤ 0) (B := True) (fun z => z) (fun _ => trivial) rfl rfl).1 c
      omega
    · rw [h126] at e1
      subst e1
      rw [h126, nI_1, nI_clamp (by have := hop.1; omega), hop.2.2.2.1]
      refine ⟨inB_n hop.1, ?_⟩
      have hS1 : mS fuel s0 (pc + 1) pl fr wy sh ct out (sI (sI s 126 (nI (pc + 1))) 127 (P.1 pc).2.2.2.2) := ⟨b, (hB.si 126 _).si 127 _, (hP.si (j := 126) (v := nI (pc + 1))).si, h105, h108, h119, hb, h123, h124, fun _ => rfl⟩
      refine M_does hst hc hg hS1 rfl (fun s2 q => ⟨rfl, ?_⟩)
      unfold stA at hQ
      have hlim := doA_trl (fr := fr) (wy := wy) (pc := pc) (pl := pl) (sh := sh) (ct := ct) (out := out) P fuel (rfl : ((0, -1, 0) : Nat × Int32 × Int32) = (0, -1, 0))
      generalize doA P fuel (pc, pl, fr, wy, sh, ct, out, (0, -1, 0)) = σ2 at q hQ htk hlim
      obtain ⟨pc2, pl2, fr2, wy2, sh2, ct2, out2, tr2⟩ := σ2
      rcases q with ⟨e2, hS2⟩ | hT2
      · rw [e2] at hQ
        refine ⟨fun _ => hQ s2 ?_, fun c => absurd (by rw [hS2.z]; decide) c⟩
        rw [if_pos (show (aT (pc2, pl2, fr2, wy2, sh2, ct2, out2, 0, -1, 0)).1 = 0 from rfl)]
        exact Or.inl ⟨rfl, hS2⟩
      · have h0 : ¬ tr2.1 = 0 := by
          obtain ⟨b, _, _, _, _, _, _, h0, _⟩ := hT2
          exact h0
        have h12 : tr2.1 < 12 := by
          obtain ⟨b, _, _, _, _, _, _, _, h, _⟩ := hT2
          exact h
        have h123 : s2.1 123 = nI tr2.1 := by
          obtain ⟨b, _, _, _, _, _, h, _⟩ := hT2
          exact h
        obtain ⟨l1, l2, l3⟩ := hlim h0
        have l1 : fr2 = fr := l1
        have l2 : wy2.length ≤ wy.length := l2
        have hQ : ∀ s', mRz fuel s0 (takeA (pc2, pl2, fr2, wy2, sh2, ct2, out2, tr2)) s' → _ := fun s' q => hQ s' (by rw [if_neg (show ¬ (aT (pc2, pl2, fr2, wy2, sh2, ct2, out2, tr2)).1 = 0 from h0)]; exact q)
        refine ⟨fun c => ?_, fun _ => ?_⟩
        · exfalso
          rw [h123] at c
          have := (pk_le tr2.1 0 (A := tr2.1 ≤ 0) (B := True) (fun z => z) (fun _ => trivial) rfl rfl).1 c
          omega
        · by_cases h9 : tr2.1 ≤ 9
          · exact M_isTaken hst hT2 (htk h0) (by omega) (by rw [l1]; exact hfr) (by have : ct2.2.1 = ct.2.1 := l3 h9; omega) (fun r s' q => ⟨r, rfl, hQ s' q⟩)
          · have e9 : takeA (pc2, pl2, fr2, wy2, sh2, ct2, out2, tr2) = (pc2, pl2, fr2, wy2, sh2, ct2, out2, tr2) := if_pos (by omega)
            rw [e9] at hQ
            refine eX10_isTaken hst ?_
            rw [h123]
            exact pk_le tr2.1 9 (fun c => absurd c h9) (fun _ => ⟨0, rfl, hQ s2 (Or.inr hT2)⟩) rfl rfl
  · obtain ⟨b, _, _, _, _, _, _, h0, _⟩ := hT
    exact absurd rfl h0
/-- run's loop goes as the flat machine goes -/
theorem M_loop (hst : l.stackTraces = false) (hc : mCode P s0) {a2 : Int32} {σ' : AS} (hQ : ∀ s', mRz fuel s0 σ' s' → ExM l E w (d + 10) MX10_run 258 [some (.ref w.1), none, some (.int a2), none, none, none] [] s' Q) : ∀ (σ : AS) (s : MS), aRch P fuel σ σ' → mRz fuel s0 σ s → ExM l E w (d + 10) MX10_run 258 [some (.ref w.1), none, some (.int a2), none, none, none] [] s Q := by
  intro σ s ⟨n, e, hg⟩ hR
  induction n generalizing σ s with
  | zero =>
    have e : σ = σ' := e
    subst e
    exact hQ s hR
  | succ n ih =>
    refine M_round hst hc σ (hg 0 (Nat.succ_pos n)) hR (fun s' q => ih (stA P fuel σ) s' e (fun k hk => hg (k + 1) (by omega)) q)
end ML
