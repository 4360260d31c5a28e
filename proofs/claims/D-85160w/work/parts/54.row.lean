/-! the walk of Table.row -/
set_option maxRecDepth 100000
theorem dX33_row_0 : decode prog_29_method_2_code 0 = .ok (.aload_n 0, 1) := by decide +kernel
theorem dX33_row_1 : decode prog_29_method_2_code 1 = .ok (.getfield 15, 3) := by decide +kernel
theorem dX33_row_4 : decode prog_29_method_2_code 4 = .ok (.ifnonnull 15, 3) := by decide +kernel
theorem dX33_row_7 : decode prog_29_method_2_code 7 = .ok (.aload_n 0, 1) := by decide +kernel
theorem dX33_row_8 : decode prog_29_method_2_code 8 = .ok (.aload_n 0, 1) := by decide +kernel
theorem dX33_row_9 : decode prog_29_method_2_code 9 = .ok (.getfield 9, 3) := by decide +kernel
theorem dX33_row_12 : decode prog_29_method_2_code 12 = .ok (.arraylength, 1) := by decide +kernel
theorem dX33_row_13 : decode prog_29_method_2_code 13 = .ok (.anewarray 19, 3) := by decide +kernel
theorem dX33_row_16 : decode prog_29_method_2_code 16 = .ok (.putfield 15, 3) := by decide +kernel
theorem dX33_row_19 : decode prog_29_method_2_code 19 = .ok (.aload_n 0, 1) := by decide +kernel
theorem dX33_row_20 : decode prog_29_method_2_code 20 = .ok (.getfield 15, 3) := by decide +kernel
theorem dX33_row_23 : decode prog_29_method_2_code 23 = .ok (.iload_n 1, 1) := by decide +kernel
theorem dX33_row_24 : decode prog_29_method_2_code 24 = .ok (.aaload, 1) := by decide +kernel
theorem dX33_row_25 : decode prog_29_method_2_code 25 = .ok (.ifnonnull 22, 3) := by decide +kernel
theorem dX33_row_28 : decode prog_29_method_2_code 28 = .ok (.aload_n 0, 1) := by decide +kernel
theorem dX33_row_29 : decode prog_29_method_2_code 29 = .ok (.getfield 15, 3) := by decide +kernel
theorem dX33_row_32 : decode prog_29_method_2_code 32 = .ok (.iload_n 1, 1) := by decide +kernel
theorem dX33_row_33 : decode prog_29_method_2_code 33 = .ok (.new 19, 3) := by decide +kernel
theorem dX33_row_36 : decode prog_29_method_2_code 36 = .ok (.dup, 1) := by decide +kernel
theorem dX33_row_37 : decode prog_29_method_2_code 37 = .ok (.aload_n 0, 1) := by decide +kernel
theorem dX33_row_38 : decode prog_29_method_2_code 38 = .ok (.getfield 9, 3) := by decide +kernel
theorem dX33_row_41 : decode prog_29_method_2_code 41 = .ok (.iload_n 1, 1) := by decide +kernel
theorem dX33_row_42 : decode prog_29_method_2_code 42 = .ok (.aaload, 1) := by decide +kernel
theorem dX33_row_43 : decode prog_29_method_2_code 43 = .ok (.invokespecial 21, 3) := by decide +kernel
theorem dX33_row_46 : decode prog_29_method_2_code 46 = .ok (.aastore, 1) := by decide +kernel
theorem dX33_row_47 : decode prog_29_method_2_code 47 = .ok (.aload_n 0, 1) := by decide +kernel
theorem dX33_row_48 : decode prog_29_method_2_code 48 = .ok (.getfield 15, 3) := by decide +kernel
theorem dX33_row_51 : decode prog_29_method_2_code 51 = .ok (.iload_n 1, 1) := by decide +kernel
theorem dX33_row_52 : decode prog_29_method_2_code 52 = .ok (.aaload, 1) := by decide +kernel
theorem dX33_row_53 : decode prog_29_method_2_code 53 = .ok (.areturn, 1) := by decide +kernel
section RW
variable {l : Launch} {E : EN} {w : CO} {d : Nat} {s : CS} {f f0 : RH} {h : CH} {Q : KO → CS → RH → Prop}
theorem vX31 {b : Nat} (hst : l.stackTraces = false) : Ev l E d MX31_init [.ref b] h (fun o h' => o = .returned none ∧ h' = h) := by
  refine Ev.of hst (by decide) (Nat.le_of_ble_eq_true rfl) ?_
  refine x_aload_n dX31_init_0 rfl rfl rfl ?_
  refine x_objInit dX31_init_1 q1401 q219 q220 (Nat.le_of_ble_eq_true rfl) rfl ?_
  exact x_vret dX31_init_4 rfl ⟨rfl, rfl⟩
theorem vX32 {b q : Nat} {c : Nat → Value} (hst : l.stackTraces = false) (hb : h.2.2 b = some (.inl 29, 0, c)) (hz : ez E ≤ b) : Ev l E (d + 1) MX32_init [.ref b, .ref q] h (fun o h' => o = .returned none ∧ h' = hset h b (.inl 29, 0, vup c 203 (.ref q))) := by
  refine Ev.of hst (by decide) (Nat.le_of_ble_eq_true rfl) ?_
  refine x_aload_n dX32_init_0 rfl rfl rfl ?_
  refine x_invI (b := b) (vs := []) dX32_init_1 oX31_init rfl rfl rfl q1399 (Or.inr ⟨_, q1398⟩) rfl rfl (Nat.le_of_ble_eq_true rfl) rfl (vX31 hst) ?_ ?_
  · rintro v h' ⟨e, rfl⟩
    cases e
    refine x_aload_n dX32_init_4 rfl rfl rfl ?_
    refine x_aload_n dX32_init_5 rfl rfl rfl ?_
    refine x_put dX32_init_6 f_TallySlate_Row_9 hb (by decide) hz (Or.inr ⟨rfl, rfl⟩) rfl rfl ?_
    exact x_vret dX32_init_9 rfl ⟨rfl, rfl⟩
  · rintro a h' ⟨e, -⟩
    cases e
/-- old cells stay -/
def Ext (f f' : RH) : Prop := f.1 ≤ f'.1 ∧ ∀ a, a < f.1 → f'.2.2.1 a = f.2.2.1 a
theorem Ext.tgE {f f' : RH} (h : Ext f f') {a : Nat} (ha : a < f.1) : tg f' a = tg f a := by unfold tg; rw [h.2 a ha]
theorem Ext.vlE {f f' : RH} (h : Ext f f') {a : Nat} (ha : a < f.1) : vl f' a = vl f a := by funext j; unfold vl; rw [h.2 a ha]
theorem Ext.lnE {f f' : RH} (h : Ext f f') {a : Nat} (ha : a < f.1) : ln f' a = ln f a := by unfold ln; rw [h.2 a ha]
/-- from where the cache is there -/
theorem row19 {t ta r n : Nat} {k : Int32} {c cr : Nat → Value} (hst : l.stackTraces = false) (ht : oc f t 30) (hta : vl f t 204 = .ref ta) (hA : tg f ta = some (.inr 11)) (hn : ln f ta = n) (hb : n ≤ 60000000) (hr : rmF E f 3 222)
    (hel : inB k n → ∃ q, vl f ta k.toNatClampNeg = .ref q)
    (hin : inB k n → ∀ x f', oc f' x 29 → vl f' x 203 = vl f ta k.toNatClampNeg → f'.2.2.2 = f'.1 → f'.2.1 = f.2.1 → Ext f f' → Q (.inl (some (.ref x))) s f')
    (hout : ¬ inB k n → ∀ f', f'.2.2.2 = f'.1 → f'.2.1 = f.2.1 + 225 → Ext f f' → Q (.inr 35) s f')
    (hW : CW E w s f h) (hF : Frz f0 f) (hc : h.2.2 t = some (.inl 30, 0, c)) (h205 : c 205 = .ref r) (hrc : h.2.2 r = some (.inr 9, n, cr)) : Ex l E (d + 1 + 1) MX33_row 19 [some (.ref t), some (.int k)] [] h (PoC E w f0 Q) := by
  have hz := hW.sz
  have hcb := hW.cb1
  have hs := tg_some ht.1
  have hrt := hW.rs t _ hs
  unfold RC at hrt
  rw [if_pos rfl] at hrt
  obtain ⟨c', k1, k2, k3, k4⟩ := hrt
  rw [hc, ht.2] at k1
  cases k1
  rw [h205] at k4
  rcases k4 with k4 | ⟨r', n', cr', ta', ca, a1, a2, a3, a4, a5, a6, a7, a8, a9, a10⟩
  · cases k4
  cases a1
  rw [hrc] at a6
  cases a6
  have a7 : vl f t 204 = .ref ta' := a7
  rw [hta] at a7
  cases a7
  have eca : vl f ta = ca := by funext j; unfold vl; rw [a9]
  refine x_aload_n dX33_row_19 rfl rfl rfl ?_
  refine x_get dX33_row_20 f_TallySlate_Table_15 hc (by decide) ?_
  rw [h205]
  refine x_iload_n dX33_row_23 rfl rfl ?_
  by_cases hb' : inB k n
  · refine x_aaload dX33_row_24 hrc (by decide) hb'.1 rfl hb'.2 ?_
    have ret : ∀ (h : CH) (c cr : Nat → Value) (x : Nat) (f' : RH), CW E w s f' h → Frz f0 f' → h.2.2 t = some (.inl 30, 0, c) → c 205 = .ref r → h.2.2 r = some (.inr 9, n, cr) → cr k.toNatClampNeg = .ref x → Q (.inl (some (.ref x))) s f' → Ex l E (d + 1 + 1) MX33_row 47 [some (.ref t), some (.int k)] [] h (PoC E w f0 Q) := by
      intro h c cr x f' hW hF hc h205 hrc hx hq
      refine x_aload_n dX33_row_47 rfl rfl rfl ?_
      refine x_get dX33_row_48 f_TallySlate_Table_15 hc (by decide) ?_
      rw [h205]
      refine x_iload_n dX33_row_51 rfl rfl ?_
      refine x_aaload dX33_row_52 hrc (by decide) hb'.1 rfl hb'.2 ?_
      rw [hx]
      exact x_aret dX33_row_53 rfl (Or.inl ⟨_, rfl⟩) rfl ⟨s, f', hW, hF, Or.inl ⟨_, rfl, hq⟩⟩
    rcases a10 _ hb'.2 with q | ⟨x, cx, b1, b2, b3, b4⟩
    · rw [q]
      refine x_ifnonnull (tgt := 47) dX33_row_25 rfl rfl (fun _ e => by cases e) (fun _ => ?_)
      refine x_aload_n dX33_row_28 rfl rfl rfl ?_
      refine x_get dX33_row_29 f_TallySlate_Table_15 hc (by decide) ?_
      rw [h205]
      refine x_iload_n dX33_row_32 rfl rfl ?_
      have hrm := hW.room hr
      refine x_new (k := 29) dX33_row_33 (by decide) q1531 q205 (by omega) (by show h.2.1 + 1 ≤ _; omega) ?_
      refine x_dup dX33_row_36 rfl ?_
      refine x_aload_n dX33_row_37 rfl rfl rfl ?_
      have tl : t < h.1 := hW.lt _ _ hc
      have rl : r < h.1 := hW.lt _ _ hrc
      have hW1 := hW.push (.inl 29, 0, fun j => defaultValue (FY j)) (CZ 29) (fun e => by cases e) (fun e => by cases e)
      have hc1 : (hpush h (.inl 29, 0, fun j => defaultValue (FY j)) (CZ 29)).2.2 t = some (.inl 30, 0, c) := by
        show (if t = h.1 then _ else _) = _
        rw [if_neg (by omega)]; exact hc
      refine x_get dX33_row_38 f_TallySlate_Table_9 hc1 (by decide) ?_
      have c204 : c 204 = .ref ta := by rw [k2]; exact hta
      rw [c204]
      refine x_iload_n dX33_row_41 rfl rfl ?_
      obtain ⟨cta, g1, g2, -⟩ := hW.cell hA
      have tal : ta < h.1 := hW.lt _ _ g1
      rw [g2 (fun e => by cases e), hn] at g1
      have g1' : (hpush h (.inl 29, 0, fun j => defaultValue (FY j)) (CZ 29)).2.2 ta = some (.inr 11, n, vl f ta) := by
        show (if ta = h.1 then _ else _) = _
        rw [if_neg (by omega)]; exact g1
      refine x_aaload dX33_row_42 g1' (by decide) hb'.1 rfl hb'.2 ?_
      obtain ⟨q0, hq0⟩ := hel hb'
      rw [hq0]
      have hx1 : (hpush h (.inl 29, 0, fun j => defaultValue (FY j)) (CZ 29)).2.2 h.1 = some (.inl 29, 0, fun j => defaultValue (FY j)) := if_pos rfl
      refine x_invI (b := h.1) (vs := [.ref q0]) dX33_row_43 oX32_init rfl rfl rfl q1396 (Or.inl q1533) rfl rfl (Nat.le_of_ble_eq_true rfl) rfl (vX32 hst hx1 (by have := hW.cb0; omega)) ?_ ?_
      · rintro v h' ⟨e, rfl⟩
        cases e
        have tgx : tg (fpush f (.inl 29, 0, fun j => defaultValue (FY j)) (CZ 29)) h.1 = some (.inl 29) := by
          unfold tg
          show Option.map _ (if h.1 = f.1 then _ else _) = _
          rw [if_pos hz]; rfl
        have lnx : ln (fpush f (.inl 29, 0, fun j => defaultValue (FY j)) (CZ 29)) h.1 = 0 := by
          unfold ln
          show (match (if h.1 = f.1 then _ else _ : CC) with | some x => x.2.1 | none => 0) = 0
          rw [if_pos hz]
        have hW2 := hW1.fput (j := 203) (v := .ref q0) (t := .inl 29) (a := h.1) (c := fun j => defaultValue (FY j)) tgx (by show f.2.2.2 ≤ h.1; omega) (by rw [lnx]; exact hx1) (fun e => by cases e)
        rw [lnx] at hW2
        have fA : ∀ b, b < h.1 → (fset (fpush f (.inl 29, 0, fun j => defaultValue (FY j)) (CZ 29)) h.1 203 (.ref q0)).2.2.1 b = f.2.2.1 b := fun b hb => by
          show (if b = h.1 then _ else (if b = f.1 then _ else f.2.2.1 b)) = _
          rw [if_neg (by omega), if_neg (by omega)]
        have hA' : ∀ b, b < h.1 → (hset (hpush h (.inl 29, 0, fun j => defaultValue (FY j)) (CZ 29)) h.1 (.inl 29, 0, vup (fun j => defaultValue (FY j)) 203 (.ref q0))).2.2 b = h.2.2 b := fun b hb => by
          show (if b = h.1 then _ else (if b = h.1 then _ else h.2.2 b)) = _
          rw [if_neg (by omega), if_neg (by omega)]
        have fX : (fset (fpush f (.inl 29, 0, fun j => defaultValue (FY j)) (CZ 29)) h.1 203 (.ref q0)).2.2.1 h.1 = some (.inl 29, 0, vup (fun j => defaultValue (FY j)) 203 (.ref q0)) := by
          show (if h.1 = h.1 then Option.map _ (if h.1 = f.1 then _ else _) else _) = _
          rw [if_pos rfl, if_pos hz]; rfl
        have hX : (hset (hpush h (.inl 29, 0, fun j => defaultValue (FY j)) (CZ 29)) h.1 (.inl 29, 0, vup (fun j => defaultValue (FY j)) 203 (.ref q0))).2.2 h.1 = some (.inl 29, 0, vup (fun j => defaultValue (FY j)) 203 (.ref q0)) := if_pos rfl
        generalize eF : fset (fpush f (.inl 29, 0, fun j => defaultValue (FY j)) (CZ 29)) h.1 203 (.ref q0) = f2 at hW2 fA fX
        generalize eH : hset (hpush h (.inl 29, 0, fun j => defaultValue (FY j)) (CZ 29)) h.1 (.inl 29, 0, vup (fun j => defaultValue (FY j)) 203 (.ref q0)) = h2 at hW2 hA' hX ⊢
        have s1 : f2.1 = f.1 + 1 := by rw [← eF]; rfl
        have s2 : f2.2.1 = f.2.1 + 2 := by rw [← eF]; rfl
        have s3 : f2.2.2.2 = f.2.2.2 := by rw [← eF]; rfl
        have cT : tg f2 t = some (.inl 30) := by unfold tg; rw [fA t tl]; exact ht.1
        have cL : ln f2 t = 0 := by unfold ln; rw [fA t tl]; exact ht.2
        have cV : vl f2 t 204 = .ref ta := by unfold vl; rw [fA t tl]; exact hta
        have cX : tg f2 h.1 = some (.inl 29) := by unfold tg; rw [fX]; rfl
        have cXL : ln f2 h.1 = 0 := by unfold ln; rw [fX]
        have cXV : vl f2 h.1 203 = .ref q0 := by unfold vl; rw [fX]; rfl
        have cTa : vl f2 ta = vl f ta := by funext j; unfold vl; rw [fA ta tal]
        refine x_aastore (C0 := "TallySlate$Row") dX33_row_46 (by rw [hA' r rl]; exact hrc) a3 rfl hX (Or.inl rfl) hb'.1 rfl hb'.2 ?_
        have hW3 := hW2.fillC cT cL cV (by rw [hA' t tl]; exact hc) h205 (by rw [hA' r rl]; exact hrc) hb'.2 q cX cXL (by rw [cXV, cTa, hq0]) (by omega)
        have tr : t ≠ r := fun e => by rw [e, hrc] at hc; cases hc
        refine ret _ c (vup cr k.toNatClampNeg (.ref h.1)) h.1 (f2.1, f2.2.1 - 2, f2.2.2.1, f2.1) hW3 (hF.trans ⟨by show f.1 ≤ f2.1; omega, by show f.2.1 ≤ f2.2.1 - 2; omega, by show f.2.2.2 ≤ f2.1; omega, fun a ha => fA a (by omega)⟩) ?_ h205 (if_pos rfl) (if_pos rfl) (hin hb' h.1 _ ⟨cX, cXL⟩ ?_ rfl ?_ ⟨by show f.1 ≤ f2.1; omega, fun a ha => fA a (by omega)⟩)
        · show (if t = r then _ else _) = _
          rw [if_neg tr, hA' t tl]; exact hc
        · rw [hq0]; exact cXV
        · show f2.2.1 - 2 = f.2.1
          omega
      · rintro a h' ⟨e, -⟩
        cases e
    · rw [b1]
      refine x_ifnonnull (tgt := 47) dX33_row_25 rfl rfl (fun _ _ => ?_) (fun e => by cases e)
      have hxs : oc f x 29 := ⟨by unfold tg; rw [b3]; rfl, by unfold ln; rw [b3]⟩
      have vx : vl f x 203 = vl f ta k.toNatClampNeg := by rw [eca, ← b4]; unfold vl; rw [b3]
      exact ret h c cr x (frz f) hW.freeze (hF.trans (Frz.freeze hcb)) hc h205 hrc b1 (hin hb' x (frz f) hxs vx rfl rfl ⟨Nat.le_refl _, fun _ _ => rfl⟩)
  · have hrm := hW.room hr
    refine x_aaloadOut dX33_row_24 hrc (by omega) ?_ (Nat.le_of_ble_eq_true rfl) rfl (by omega) (by omega) ?_
    · by_cases hi : k < 0
      · exact Or.inl hi
      · exact Or.inr (Nat.le_of_not_lt fun z => hb' ⟨hi, z⟩)
    · have hW1 := (hW.exc 35).freeze
      refine c_out (k := 35) (f := frz (fexc f)) rfl hW1 (xA.mk 35 (Or.inl rfl) h) ((hF.trans (Frz.exc f)).trans (Frz.freeze (by show f.2.2.2 ≤ f.1 + 3; omega))) (hout hb' _ rfl rfl ⟨Nat.le_add_right _ _, fun _ _ => rfl⟩)
theorem eX33_row {t ta : Nat} {k : Int32} (hst : l.stackTraces = false) (hzt : ez E ≤ t) (ht : oc f t 30) (hta : vl f t 204 = .ref ta) (hA : tg f ta = some (.inr 11)) (hb : ln f ta ≤ 60000000) (hr : rmF E f 3 222)
    (hel : inB k (ln f ta) → ∃ q, vl f ta k.toNatClampNeg = .ref q)
    (hin : inB k (ln f ta) → ∀ x f', oc f' x 29 → vl f' x 203 = vl f ta k.toNatClampNeg → f'.2.2.2 = f'.1 → f'.2.1 = f.2.1 → Ext f f' → Q (.inl (some (.ref x))) s f')
    (hout : ¬ inB k (ln f ta) → ∀ f', f'.2.2.2 = f'.1 → f'.2.1 = f.2.1 + 225 → Ext f f' → Q (.inr 35) s f') : EvC l E w (d + 1 + 1) MX33_row [.ref t, .int k] s f Q := by
  refine EvC.of hst (by decide) (Nat.le_of_ble_eq_true rfl) ?_
  intro f0 h hW hF
  obtain ⟨c, g1, -, g3⟩ := hW.cell ht.1
  rw [ht.2] at g1
  have c204 : c 204 = .ref ta := by rw [g3 rfl]; exact hta
  have hs := tg_some ht.1
  have hrt := hW.rs t _ hs
  unfold RC at hrt
  rw [if_pos rfl] at hrt
  obtain ⟨c', k1, k2, k3, k4⟩ := hrt
  rw [g1, ht.2] at k1
  cases k1
  have hz := hW.sz
  have tl : t < h.1 := hW.lt _ _ g1
  refine x_aload_n dX33_row_0 rfl rfl rfl ?_
  refine x_get dX33_row_1 f_TallySlate_Table_15 g1 (by decide) ?_
  rcases k4 with k4 | ⟨r, n, cr, ta', ca, a1, a2, a3, a4, a5, a6, a7, a8, a9, a10⟩
  · rw [k4]
    refine x_ifnonnull (tgt := 19) dX33_row_4 rfl rfl (fun _ e => by cases e) (fun _ => ?_)
    refine x_aload_n dX33_row_7 rfl rfl rfl ?_
    refine x_aload_n dX33_row_8 rfl rfl rfl ?_
    refine x_get dX33_row_9 f_TallySlate_Table_9 g1 (by decide) ?_
    rw [c204]
    obtain ⟨cta, m1, m2, -⟩ := hW.cell hA
    refine x_alen dX33_row_12 m1 ?_
    have hW1 := hW.mkC ht.1 ht.2 hta hA rfl g1 k4
    have hsl := hW1.sl
    have hl1 : h.1 + 1 + ucost (f.1 + 1, f.2.1, f.2.2.1, f.1 + 1) _ + BM ≤ eLc E + f.2.1 := hsl.1
    have hl2 : h.2.1 + ln f ta + ucost (f.1 + 1, f.2.1, f.2.2.1, f.1 + 1) _ + BM ≤ eLs E + f.2.1 := hsl.2
    have hr' : f.2.1 + 3 + 222 ≤ BM := hr
    refine x_anewarray (t := 9) dX33_row_13 (by decide) q1532 (Or.inl ⟨_, rfl, q1531⟩) (nI_pos (by omega)) (nI_clamp (by omega)) hb (by omega) (by omega) ?_
    have hc1 : (hpush h (.inr 9, ln f ta, fun _ => .null) (ln f ta)).2.2 t = some (.inl 30, 0, c) := by
      show (if t = h.1 then _ else _) = _
      rw [if_neg (by omega)]; exact g1
    refine x_put dX33_row_16 f_TallySlate_Table_15 hc1 (by decide) hzt (Or.inl rfl) rfl rfl ?_
    have hcb := hW.cb1
    have hN : (hset (hpush h (.inr 9, ln f ta, fun _ => .null) (ln f ta)) t (.inl 30, 0, vup c 205 (.ref h.1))).2.2 h.1 = some (.inr 9, ln f ta, fun _ => .null) := by
      show (if h.1 = t then _ else (if h.1 = h.1 then _ else _)) = _
      rw [if_neg (by omega), if_pos rfl]
    exact row19 (f := (f.1 + 1, f.2.1, f.2.2.1, f.1 + 1)) (c := vup c 205 (.ref h.1)) hst ht hta hA rfl hb hr hel (fun q x f' b1 b2 b3 b4 b5 => hin q x f' b1 b2 b3 b4 ⟨Nat.le_trans (Nat.le_succ _) b5.1, fun a ha => b5.2 a (Nat.lt_succ_of_lt ha)⟩) (fun q f' b3 b4 b5 => hout q f' b3 b4 ⟨Nat.le_trans (Nat.le_succ _) b5.1, fun a ha => b5.2 a (Nat.lt_succ_of_lt ha)⟩) hW1 (hF.trans ⟨Nat.le_succ _, Nat.le_refl _, by show f.2.2.2 ≤ f.1 + 1; omega, fun _ _ => rfl⟩) (if_pos rfl) (if_pos rfl) hN
  · rw [a1]
    have a7 : vl f t 204 = .ref ta' := a7
    rw [hta] at a7
    cases a7
    have en : ln f ta = n := by unfold ln; rw [a9]
    refine x_ifnonnull (tgt := 19) dX33_row_4 rfl rfl (fun _ _ => ?_) (fun e => by cases e)
    subst en
    exact row19 hst ht hta hA rfl hb hr hel hin hout hW hF g1 a1 a6
end RW
