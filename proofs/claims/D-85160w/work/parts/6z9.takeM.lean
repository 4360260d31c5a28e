/-! THE MODEL: a trouble goes to the latest try -/
section MT
variable {l : Launch} {E : EN} {w : MO} {d : Nat} {Q : Option Value → MS → Prop} {fuel : Nat} {s0 s s' : MS} {b b' : Nat} {fr : List Fm} {wy : List Wy} {sh : Nat → Option Th} {st dp tk : Nat} {out : List Int32}
theorem mBz.wset (h : mBz fuel s0 b fr wy sh st dp tk out s) (r : List Wy) (hr : mWys s b r) : mBz fuel s0 b fr r sh st dp tk out (sI s 136 (nI r.length)) := by
  obtain ⟨g1, g2, g3, g4, g5, g6, g7, g8, g9, g10⟩ := h
  exact ⟨g1.si, g2, hr.si, rfl, g5, g6, g7, g8, g9, g10.trans (mfR.sI s 136 _)⟩
theorem mBz.tkn (h : mBz fuel s0 b fr wy sh st dp tk out s) : mBz fuel s0 b fr wy sh st dp (tk + 1) out (sI s 121 (nI (tk + 1))) := by
  obtain ⟨g1, g2, g3, g4, g5, g6, g7, g8, g9, g10⟩ := h
  exact ⟨g1.si, g2, g3.si, g4, g5, g6, ⟨g7.1, g7.2.1, rfl⟩, g8, g9, g10.trans (mfR.sI s 121 _)⟩
theorem alast_mem {q : Wy} {r : List Wy} : ∀ {wy : List Wy}, alast wy = q :: r → q ∈ wy ∧ q.1 = 2
  | x :: t, h => by
    unfold alast at h
    split at h
    · rename_i c
      cases h
      exact ⟨List.mem_cons_self, c⟩
    · have := alast_mem h
      exact ⟨List.mem_cons_of_mem _ this.1, this.2⟩
theorem i32_m1 (x : Int32) : x + (-1) = x - 1 := by rw [Int32.sub_eq_add_neg]
theorem M_isTaken (hst : l.stackTraces = false) {pc : Nat} {pl : List Th} {ct : Ct} {tr : Nat × Int32 × Int32} (hT : mTr fuel s0 pl fr wy sh ct out tr s) (hq : ∀ q ∈ wy, q.1 = 2 → q.2.2.2.2.2.1 ≤ pl.length ∧ 1 ≤ q.2.2.2.2.2.2.1 ∧ q.2.2.2.2.2.2.1 ≤ fr.length ∧ q.2.2.2.1 < 22) (hw : wy.length ≤ 400) (hfr : fr.length ≤ 10) (hm : ct.2.1 ≤ 4000)
    (hQ : ∀ r s', mRz fuel s0 (takeA (pc, pl, fr, wy, sh, ct, out, tr)) s' → Q (some (.int r)) s') : EvM l E w (d + 1) MX10_isTaken [.ref w.1] s Q := by
  obtain ⟨b, hB, hP, h105, h119, hb, h123, hk0, hk12, h124, h122⟩ := id hT
  refine eX10_isTaken hst ?_
  rw [h123, hB.2.2.2.1]
  refine pk_le tr.1 9 (fun c9 y1 e1 => ?_) (fun c9 => ?_) rfl rfl
  · subst e1
    have e9 : takeA (pc, pl, fr, wy, sh, ct, out, tr) = (match alast wy with
        | [] => (pc, pl, fr, wy, sh, ct, out, tr)
        | (_, _, a, b, _, d, e, p) :: r => (a, pl.drop (pl.length - d), aputF (fr.drop (fr.length - e)) b (zI (if tr.1 = 9 then tr.2.2 else nI tr.1)), r, aputS sh b (zI (if tr.1 = 9 then tr.2.2 else nI tr.1)), (ct.1, ct.2.1 + 300, ct.2.2.1, ct.2.2.2 + 1), out, if 3000 < ct.2.1 + 300 then (11, p, 0) else (0, -1, 0))) := if_neg (by omega)
    rw [e9] at hQ
    clear e9
    have main : ∀ wy', mWys s b wy' → wy'.length ≤ 400 → alast wy = alast wy' → ExM l E w (d + 1) MX10_isTaken 18 [some (.ref w.1), some (.int (nI wy'.length - 1)), none] [] s Q := by
      intro wy'
      induction wy' with
      | nil =>
        intro _ _ e
        have e : alast wy = [] := e
        rw [e] at hQ
        refine vX10_isTaken_18 ⟨fun _ => ⟨fun c => absurd c (by decide), fun _ => hQ 0 s (Or.inr hT)⟩, fun c => absurd (by decide) c⟩
      | cons q r ih =>
        intro hm' hl e
        have hl : r.length + 1 ≤ 400 := hl
        have e1 : nI (q :: r).length - 1 = nI r.length := nI_pred r.length
        rw [e1]
        obtain ⟨⟨k1, k2, k3, k4, k5, k6⟩, kr⟩ := hm'
        refine vX10_isTaken_18 (pk_lt r.length 0 (fun c => by omega) (fun _ => ⟨inB_n (by omega), ?_⟩) rfl rfl)
        rw [nI_clamp (by omega), k1]
        refine pk_eq q.1 2 (fun c2 => ?_) (fun c2 => ?_) rfl rfl
        · have ea : alast wy = q :: r := by rw [e]; exact if_pos c2
          obtain ⟨m1, m2⟩ := alast_mem ea
          obtain ⟨q1, q2, q3, q4⟩ := hq q m1 m2
          rw [ea] at hQ
          obtain ⟨k51, k52, k53⟩ := k5 c2
          match q, q1, q2, q3, q4, k51, k52, k53, k2, k3, hQ with
          | (_, _, a, bn, _, dd, e, p), q1, q2, q3, q4, k51, k52, k53, k2, k3, hQ =>
            have q1 : dd ≤ pl.length := q1
            have q2 : 1 ≤ e := q2
            have q3 : e ≤ fr.length := q3
            have q4 : bn < 22 := q4
            have k51 : s.2.2.1 138 r.length = nI a := k51
            have k52 : s.2.2.1 140 r.length = p := k52
            have k53 : s.2.2.1 141 r.length = nI dd := k53
            have k2 : s.2.2.1 139 r.length = nI bn := k2
            have k3 : s.2.2.1 142 r.length = nI e := k3
            have h64 : ∀ v : Int32, v = (if tr.1 = 9 then tr.2.2 else nI tr.1) → ExM l E w (d + 1) MX10_isTaken 64 [some (.ref w.1), some (.int (nI r.length)), none] [.int v] s Q := by
              intro v ev
              refine vX10_isTaken_64 ?_
              rw [nI_clamp (by omega), k2, k3, k51, k53, hB.2.2.2.2.2.2.1.2.2, nI_1, h119, show nI ct.2.1 + 300 = nI (ct.2.1 + 300) from nI_add _ _]
              refine ⟨inB_n (by omega), inB_n (by omega), inB_n (by omega), inB_n (by omega), ?_⟩
              have hB2 := ((((((hB.wset r kr).fdrop e q3).si 108 (nI dd)).si 126 (nI a)).tkn.si 123 0).si 124 (-1)).si 119 (nI (ct.2.1 + 300))
              have hP2 := (((((((mPs.drop (pl.length - dd) pl hP).si (j := 136) (v := nI r.length)).si (j := 130) (v := nI e)).si (j := 108) (v := nI dd)).si (j := 126) (v := nI a)).si (j := 121) (v := nI (ct.2.2.2 + 1))).si (j := 123) (v := 0)).si (j := 124) (v := -1)
              have hP2 := hP2.si (j := 119) (v := nI (ct.2.1 + 300))
              have hlen : (fr.drop (fr.length - e)).length = e := by rw [List.length_drop]; omega
              have hpl : (pl.drop (pl.length - dd)).length = dd := by rw [List.length_drop]; omega
              refine M_store hst (D := e) (tg := bn) (by rfl) q2 (by omega) q4 ⟨rfl, ?_⟩
              rw [mst_1]
              have hB3 := hB2.store (tg := bn) (k := 0) (v := v) (x := zI v) (Or.inl ⟨rfl, rfl, rfl⟩) trivial (by rw [hlen]; exact q2) q4
              have hP3 := hP2.store (D := e) (tg := bn) (k := 0) (v := v)
              rw [hlen] at hB3
              rw [← ev] at hQ
              refine pk_le (ct.2.1 + 300) 3000 (fun c3 => ⟨fun c => absurd rfl c, fun _ => hQ 1 _ (Or.inl ⟨if_neg (by omega), b, hB3, hP3, ?_, ?_, ?_, ?_, ?_, ?_, fun _ => ?_⟩)⟩) (fun c3 => ⟨inB_n (by omega), ?_⟩) rfl rfl
              · rw [mst_1]; exact h105
              · rw [mst_1, hpl]; rfl
              · rw [mst_1]; rfl
              · show b ≤ 154250 + (ct.2.1 + 300); omega
              · rw [mst_1]; rfl
              · rw [mst_1]; rfl
              · rw [mst_1]; rfl
              · refine M_trouble hst (by rw [mst_1]; rfl) ⟨rfl, fun _ => hQ 0 _ (Or.inr ?_), fun c => absurd c (show ¬ (11 : Int32) = 0 by decide)⟩
                rw [if_pos (by omega)]
                refine ⟨b, (hB3.si 123 11).si 124 _, (hP3.si (j := 123) (v := 11)).si, ?_, ?_, ?_, rfl, (show ¬ 11 = 0 by decide), (show 11 < 12 by decide), ?_, fun c => absurd c (show ¬ 11 = 9 by decide)⟩
                · show (mst _ e bn 0 v).1 105 = _
                  rw [mst_1]; exact h105
                · show (mst _ e bn 0 v).1 119 = _
                  rw [mst_1]; rfl
                · show b ≤ 154550 + (ct.2.1 + 300); omega
                · show (mst _ e bn 0 v).2.2.1 140 _ = p
                  rw [← k52]
                  unfold mst
                  split <;> rfl
            refine ⟨fun _ => ⟨fun c => h64 _ ?_, fun c => h64 _ ?_⟩, fun c => absurd ((Int32.le_iff_toInt_le).mpr ?_) c⟩
            · rw [if_neg (fun z => c (by rw [h123, z]; rfl)), h123]
            · have : tr.1 = 9 := by
                rw [h123] at c
                have c : nI tr.1 = nI 9 := c
                have := congrArg Int32.toInt c
                rw [nI_toInt (by omega), nI_toInt (by omega)] at this
                omega
              rw [if_pos this, h122 this]
            · rw [nI_toInt (by omega)]; exact Int.natCast_nonneg _
        · have := ih kr (by omega) (by rw [e]; exact if_neg c2)
          rw [i32_m1]
          exact this
    exact main wy hB.2.2.1 hw rfl
  · have e9 : takeA (pc, pl, fr, wy, sh, ct, out, tr) = (pc, pl, fr, wy, sh, ct, out, tr) := if_pos c9
    rw [e9] at hQ
    exact hQ 0 s (Or.inr hT)
end MT
