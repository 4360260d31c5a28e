/-! THE COMPONENT'S TREES: each: its end -/
section CDc
variable {l : Launch} {E : EN} {w : CO} {d : Nat} {s : CS} {f : RH} {Q : KO → CS → RH → Prop}
theorem C_eachEnd (hst : l.stackTraces = false) {n md p b1 : Nat} {x : Th} {R : List Th} {place : Int32} (h : COk E n md (x :: R) s f) (hk : ¬ zk x = 0) (hp : RT E f (.ref p) x) (hQ : ∀ o s' f', cop E n md (zeach x R) place s f o s' f' → Q o s' f') : ExC l E w (d + 5) MX3_each 43 [some (.ref (w.1 3)), some (.ref b1), some (.int place), some (.int (nI n)), some (.ref p), some (.int (nI R.length)), some (.int (bI (R.all (fun t => zk t == 0)))), some (.int (bI (R.all (fun t => zk t == 1)))), some (.int (nI R.length))] [] s f Q := by
  obtain ⟨⟨h26, h83, h40, hmd⟩, ⟨hr, hz, hcb⟩, hZ0, hV0⟩ := h
  have hz1 : ez E ≤ f.1 := Nat.le_trans hz hcb
  have h26 : s.1 26 = nI (n + (R.length + 1)) := h26
  have h83 : n + (R.length + 1) ≤ 8380 := h83
  have hZ : ∀ t ∈ R, ZW t := fun t ht => hZ0 t (List.mem_cons_of_mem _ ht)
  have hV : ∀ i, i < R.length → rcV E f (s.2.2.1 24 (n + 1 + i)) (s.2.2.2 25 (n + 1 + i)) (R.getD i (zI 0)) := fun i hi => by
    have := hV0 (i + 1) (by rw [List.length_cons]; omega)
    rw [show n + (i + 1) = n + 1 + i by omega] at this
    exact this
  refine ExC.pfrz (vX3_each_43 (pk_le R.length R.length (fun _ => ⟨hp.isT, ?_⟩) (fun c => by omega) rfl rfl))
  rw [show nI n + 1 = nI (n + 1) from nI_add n 1, show nI R.length + 1 = nI (R.length + 1) from nI_add R.length 1]
  obtain ⟨p', e1, _, e3⟩ := hp.ocl
  cases e1
  rw [if_neg hk] at e3
  unfold zeach at hQ
  by_cases k3 : zk x = 3
  · rw [if_pos k3] at hQ
    rw [k3] at e3
    refine br_t e3.1 ?_
    refine C_mpack hst (T := R) rfl (by omega) hV hZ (by omega) hcb (fun c p f' q1 q2 => ⟨p, rfl, ?_⟩) (fun c f' q2 => ?_)
    · have hmk := zmk_le c
      obtain ⟨-, hw⟩ := zmk_pack hZ hmk
      exact C_fin hst (r := zmk (zP R)) (t := zP R) hmk (cfr.rf JC n s) q2.2.2.1 q1 (by show ¬ 3 = 0; decide) hw h26 h83 h40 hmd (by show _ ≤ 2 * (4 + 2 * (zl (zsp R)).length); rw [zl_zsp]; omega) hQ
    · exact hQ _ _ _ (cop.tr (k := 2) (zmk_gt c) rfl h40 (by have := q2.2.2.1; omega))
  rw [if_neg k3] at hQ
  refine br_f (by rw [e3.1]; intro z; injection z with z; injection z with z; omega) ?_
  by_cases k0 : R = []
  · subst k0
    rw [if_pos rfl] at hQ
    refine ⟨fun c => absurd rfl c, fun _ => ⟨hp.isT, ?_⟩⟩
    have e0 : (0 : Int32).toNatClampNeg = 0 := by decide
    rw [e0]
    by_cases k1 : zk x = 1
    · rw [if_pos k1] at hQ
      rw [k1] at e3
      refine br_t e3.1 ⟨(by show f.2.1 + 1 + 1 ≤ BM; omega), fun a30 f31 e1 e2 => ⟨by decide, ?_, fun a32 f33 e4 e5 => ?_⟩⟩
      · subst e2
        have := (fnew_gw f 29).2.2.1
        rw [CZ29] at this
        show (fnew f 29).2.1 + 1 + 0 ≤ BM; omega
      · subst e1 e2 e4 e5
        rw [fnewA0]
        have g := fA_gw (fnew f 29) 0 []
        refine C_rowLate hst g hcb (fA_rI (fnew f 29) 0 [] (Nat.le_succ_of_le hz1) rfl) (fun f2 q1 q2 => ⟨rfl, ?_⟩)
        exact C_fin hst (r := .inr (zR [])) (t := zR []) rfl (cfr.rf JC n s) q2.2.2.1 q1 (by show ¬ 1 = 0; decide) (by show 0 ≤ 64; decide) h26 h83 h40 hmd (by show 0 + 1 + 2 ≤ 2 * (4 + 0); decide) hQ
    · rw [if_neg k1] at hQ
      refine br_f (by rw [e3.1]; intro z; injection z with z; injection z with z; omega) ⟨(by show f.2.1 + 1 + 2 ≤ BM; omega), fun a30 f31 e1 e2 => ⟨by decide, ?_, fun a32 f33 e4 e5 => ?_⟩⟩
      · subst e2
        have := (fnew_gw f 30).2.2.1
        rw [CZ30] at this
        show (fnew f 30).2.1 + 1 + 0 ≤ BM; omega
      · subst e1 e2 e4 e5
        have hB := TB.start E (fnew f 30) 0
        refine C_tabLate hst (R := []) hB.1 hcb hB.2.2.1 hB.2.2.2.1 hB.2.1 (fun i hi => absurd hi (Nat.not_lt_zero i)) (fun f2 q1 q2 => ⟨rfl, ?_⟩)
        exact C_fin hst (r := .inr (zT [])) (t := zT []) rfl (cfr.rf JC n s) q2.2.2.1 q1 (by show ¬ 2 = 0; decide) ⟨by show 0 ≤ 20; decide, by show 0 ≤ 200; decide, fun r hr => by cases hr⟩ h26 h83 h40 hmd (by show 0 + 1 + (3 * 0 + 4) ≤ 2 * (4 + 4 * 0 + 0); decide) hQ
  rw [if_neg k0] at hQ
  have hl0 : 0 < R.length := List.length_pos_iff.mpr k0
  have hn0 : ¬ nI R.length = 0 := by
    rw [show (0 : Int32) = nI 0 from rfl, nI_eq (by omega) (by decide)]; omega
  refine ⟨fun _ => ?_, fun c => absurd c hn0⟩
  unfold zbuild at hQ
  cases hI : R.all (fun t => zk t == 0) with
  | true =>
    rw [if_pos hI] at hQ
    refine br_f (by decide) ?_
    have hA := all_map_zv hI
    have hlen : (R.map zv).length = R.length := List.length_map ..
    refine C_mrow hst (V := R.map zv) hlen (by omega) (fun i hi => ?_) (by omega) hcb hz1 (fun c p f' q1 q2 => ⟨p, rfl, ?_⟩) (fun c => ?_)
    · have hv := hV i hi
      have he : R.getD i (zI 0) = zI ((R.map zv).getD i 0) := by
        conv => lhs; rw [hA]
        exact getD_map zI (R.map zv) 0 (zI 0) (by rw [hlen]; exact hi)
      rw [he] at hv
      exact hv.2
    · have hw : ZW (zR (R.map zv)) := by show (R.map zv).length ≤ 64; omega
      exact C_fin hst (r := zmk (zof 1 R)) (t := zR (R.map zv)) (zmk_ok hw) (cfr.rf JC n s) q2.2.2.1 q1 (by show ¬ 1 = 0; decide) hw h26 h83 h40 hmd (by show _ ≤ 2 * (4 + (R.map zv).length); omega) hQ
    · refine hQ _ _ _ (cop.tr (k := 2) ?_ rfl h40 (by omega))
      show (if decide (64 < (R.map zv).length) = true then _ else _) = _
      rw [decide_eq_true (by omega)]; rfl
  | false =>
    have hI' : ¬ R.all (fun t => zk t == 0) = true := by rw [hI]; decide
    rw [if_neg hI'] at hQ
    refine br_t rfl ?_
    cases hR : R.all (fun t => zk t == 1) with
    | true =>
      rw [if_pos hR] at hQ
      refine br_f (by decide) ?_
      have hlen : (R.map zr).length = R.length := List.length_map ..
      have hrow : ∀ i, i < R.length → R.getD i (zI 0) = zR ((R.map zr).getD i []) := fun i hi => by
        have hm := getD_mem (zI 0) hi
        have := beq_iff_eq.mp (List.all_eq_true.mp hR _ hm)
        rw [getD_map zr R (zI 0) [] hi]
        exact zk1 this
      have h64 : ∀ r ∈ R.map zr, r.length ≤ 64 := fun r hr => by
        obtain ⟨t, ht, rfl⟩ := List.mem_map.mp hr
        have hw := hZ t ht
        rw [zk1 (beq_iff_eq.mp (List.all_eq_true.mp hR t ht))] at hw
        exact hw
      refine C_mtab hst (R := R.map zr) hlen (by omega) (fun i hi => ?_) h64 (by omega) hcb hz1 (fun c p f' q1 q2 => ⟨p, rfl, ?_⟩) (fun c f' q2 => ?_)
      · have hv := hV i hi
        rw [hrow i hi] at hv
        exact hv
      · rw [zgtT] at c
        simp only [Bool.or_eq_false_iff, decide_eq_false_iff_not] at c
        have hw : ZW (zT (R.map zr)) := ⟨by omega, by omega, h64⟩
        exact C_fin hst (r := zmk (zof 2 R)) (t := zT (R.map zr)) (zmk_ok hw) (cfr.rf JC n s) q2.2.2.1 q1 (by show ¬ 2 = 0; decide) hw h26 h83 h40 hmd (by show _ ≤ 2 * (4 + 4 * (R.map zr).length + zis (R.map zr)); omega) hQ
      · refine hQ _ _ _ (cop.tr (k := 2) ?_ rfl h40 (by have := q2.2.2.1; omega))
        show (if zgt (zT (R.map zr)) = true then _ else _) = _
        rw [c]; rfl
    | false =>
      have hR' : ¬ R.all (fun t => zk t == 1) = true := by rw [hR]; decide
      rw [if_neg hR'] at hQ
      refine br_t rfl ?_
      exact C_finW hst rfl rfl (cfr.rf JC n s) h40 (by omega) hQ
end CDc
