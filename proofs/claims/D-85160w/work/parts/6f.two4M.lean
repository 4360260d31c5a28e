theorem zis_take_le (a : List (List Int32)) (i : Nat) : zis (a.take i) ≤ zis a := by
  have := zis_app (a.take i) (a.drop i)
  rw [List.take_append_drop] at this
  omega
theorem zlk_any {X Y : Lf} : (List.range (zlen2 X Y)).any (fun k => !zlk (zrw X k) (zrw Y k)) = true ↔ ∃ k, k < zlen2 X Y ∧ zlk (zrw X k) (zrw Y k) = false := by
  rw [List.any_eq_true]
  constructor
  · rintro ⟨k, h1, h2⟩
    exact ⟨k, List.mem_range.mp h1, by simpa using h2⟩
  · rintro ⟨k, h1, h2⟩
    exact ⟨k, List.mem_range.mpr h1, by simp [h2]⟩
/-- the table whose rows count -/
def zbig (X Y : Lf) : List (List Int32) := match X, Y with
  | .inr (.inr a), _ => a
  | _, .inr (.inr b) => b
  | _, _ => []
section MT4
variable {l : Launch} {E : EN} {w : MO} {d : Nat} {s : MS} {Q : Option Value → MS → Prop}
/-- signs of two where one is no INT -/
theorem M_tw264 (hst : l.stackTraces = false) {sg : Int32} (hs : sg ∈ zSg) {b n md : Nat} {s0 : MS} {X Y : Lf} {kx xv ky yv : Int32} (hx : rmV (s0.2.2.1 104) b kx xv (.leaf X)) (hy : rmV (s0.2.2.1 104) b ky yv (.leaf Y)) (wx : ZW (.leaf X)) (wy : ZW (.leaf Y))
    (hXY : ¬ ((∃ v, X = .inl v) ∧ ∃ v, Y = .inl v)) (hb : b ≤ 157600) (hn : n ≤ 8350) (hmd : s0.1 119 = nI md) (hm3 : md ≤ 3000) (h0 : s0.1 123 = 0) (hQ : ∀ s', mop b n md (ztwoL sg X Y) s0 s' → Q none s') (ha : MAcc b n s0 b [] s) :
    ExM l E w (d + 4) MX10_two 264 (tw264 w (zsM sg) kx xv ky yv (nI n) (fl (zdv sg)) (fl (zisT X || zisT Y)) (nI (zlen2 X Y)) (fl (zld X Y)) 0) [] s Q := by
  have hzt : ztwoL sg X Y = if zun X Y = true then .inl 4 else if zisT X = true ∨ zisT Y = true then (match zallS ((List.range (zlen2 X Y)).map (fun k => zr2 sg (zrv X) (zrv Y) (zrw X k) (zrw Y k))) with
      | none => .inl 6
      | some a => .inr (zT a))
    else (match zr2 sg (zrv X) (zrv Y) (zrw X 0) (zrw Y 0) with
      | none => .inl 6
      | some a => .inr (zR a)) := by
    match X, Y, hXY with
    | .inl v, .inl w', h => exact absurd ⟨⟨v, rfl⟩, ⟨w', rfl⟩⟩ h
    | .inl v, .inr _, _ => rfl
    | .inr _, .inl _, _ => rfl
    | .inr _, .inr _, _ => rfl
  have hR20 : zlen2 X Y ≤ 20 := by
    match X, Y, wx, wy with
    | .inr (.inr a), _, wx, _ => exact wx.1
    | .inl _, .inr (.inr b), _, wy => exact wy.1
    | .inr (.inl _), .inr (.inr b), _, wy => exact wy.1
    | .inl _, .inl _, _, _ => show 1 ≤ 20; decide
    | .inl _, .inr (.inl _), _, _ => show 1 ≤ 20; decide
    | .inr (.inl _), .inl _, _, _ => show 1 ≤ 20; decide
    | .inr (.inl _), .inr (.inl _), _, _ => show 1 ≤ 20; decide
  have hrX : ∀ k r, zrw X k = some r → r.length ≤ 64 := by
    intro k r h
    match X, wx, h with
    | .inr (.inl a), wx, h => cases h; exact wx
    | .inr (.inr t), wx, h =>
      cases h
      by_cases hk : k < t.length
      · exact wx.2.2 _ (getD_mem [] hk)
      · rw [List.getD, List.getElem?_eq_none (by omega)]; exact Nat.zero_le _
  have hrY : ∀ k r, zrw Y k = some r → r.length ≤ 64 := by
    intro k r h
    match Y, wy, h with
    | .inr (.inl a), wy, h => cases h; exact wy
    | .inr (.inr t), wy, h =>
      cases h
      by_cases hk : k < t.length
      · exact wy.2.2 _ (getD_mem [] hk)
      · rw [List.getD, List.getElem?_eq_none (by omega)]; exact Nat.zero_le _
  have hL64 : ∀ k, zL2 (zrw X k) (zrw Y k) ≤ 64 := by
    intro k
    cases e : zrw X k with
    | some r => exact hrX k r e
    | none =>
      cases e2 : zrw Y k with
      | some r => exact hrY k r e2
      | none => exact Nat.zero_le _
  have hXYk : ∀ k, ¬ (zrw X k = none ∧ zrw Y k = none) := by
    intro k
    match X, Y, hXY with
    | .inl v, .inl w', h => exact absurd ⟨⟨v, rfl⟩, ⟨w', rfl⟩⟩ h
    | .inl v, .inr (.inl _), _ => rintro ⟨_, h⟩; cases h
    | .inl v, .inr (.inr _), _ => rintro ⟨_, h⟩; cases h
    | .inr (.inl _), _, _ => rintro ⟨h, _⟩; cases h
    | .inr (.inr _), _, _ => rintro ⟨h, _⟩; cases h
  -- a trouble: unlike
  have h4 : zun X Y = true → EvM l E w (d + 3) MX10_trouble [.ref w.1, .int 4, .int (s.1 127)] s (fun r s1 => r = none ∧ Q none s1) := by
    intro hu
    rw [hzt, if_pos hu] at hQ
    exact M_tmop hst ha.1 ha.2.2.1 (Nat.le_refl b) (by omega) hmd h0 (ha.1.1 127 (by decide)) rfl (fun s' q => ⟨rfl, hQ s' q⟩)
  have h1 : ∀ a13 : Int32, zun X Y = true → ExM l E w (d + 4) MX10_two 264 (tw264 w (zsM sg) kx xv ky yv (nI n) (fl (zdv sg)) (fl (zisT X || zisT Y)) (nI (zlen2 X Y)) 1 a13) [] s Q := by
    intro a13 hu
    exact vX10_two_264 ⟨fun _ => ⟨fun c => absurd c (by decide), fun _ => h4 hu⟩, fun _ => ⟨fun _ => ⟨fun c => absurd c (by decide), fun _ => h4 hu⟩, fun c => absurd c (by decide)⟩⟩
  cases hld : zld X Y with
  | true => exact h1 0 (by rw [zun_eq, hld]; rfl)
  | false =>
    have hRX : ∀ k, k < zlen2 X Y → ∀ t, X = .inr (.inr t) → k < t.length := by
      intro k hk t e
      subst e
      exact hk
    have hRY : ∀ k, k < zlen2 X Y → ∀ t, Y = .inr (.inr t) → k < t.length := by
      intro k hk t e
      subst e
      match X, hk, hld with
      | .inl _, hk, _ => exact hk
      | .inr (.inl _), hk, _ => exact hk
      | .inr (.inr a), hk, hld =>
        have hld : (a.length != t.length) = false := hld
        have : a.length = t.length := by simpa using hld
        have hk : k < a.length := hk
        omega
    -- all rows are alike: from 354 on
    have h354 : (∀ k, k < zlen2 X Y → zlk (zrw X k) (zrw Y k) = true) → ExM l E w (d + 4) MX10_two 354 (tw354 w (zsM sg) kx xv ky yv (nI n) (fl (zdv sg)) (fl (zisT X || zisT Y)) (nI (zlen2 X Y)) 0) [] s Q := by
      intro hall
      have hu : ¬ zun X Y = true := by
        rw [zun_eq, hld, Bool.false_or, zlk_any]
        rintro ⟨k, k1, k2⟩
        rw [hall k k1] at k2; cases k2
      rw [hzt, if_neg hu] at hQ
      cases hT : (zisT X || zisT Y) with
      | true =>
        rw [if_pos (by simpa using hT)] at hQ
        have hbig : ∀ k, k < zlen2 X Y → zL2 (zrw X k) (zrw Y k) = ((zbig X Y).getD k []).length := by
          intro k hk
          have hu := hall k hk
          match X, Y, hT, hu with
          | .inr (.inr a), _, _, _ => rfl
          | .inl _, .inr (.inr b), _, _ => rfl
          | .inr (.inl a), .inr (.inr b), _, hu =>
            have hu : (a.length == (b.getD k []).length) = true := hu
            exact beq_iff_eq.mp hu
          | .inl _, .inl _, h, _ => cases h
          | .inl _, .inr (.inl _), h, _ => cases h
          | .inr (.inl _), .inl _, h, _ => cases h
          | .inr (.inl _), .inr (.inl _), h, _ => cases h
        have hbl : (zbig X Y).length = zlen2 X Y ∧ zis (zbig X Y) ≤ 200 := by
          match X, Y, hT, wx, wy with
          | .inr (.inr a), _, _, wx, _ => exact ⟨rfl, wx.2.1⟩
          | .inl _, .inr (.inr b), _, _, wy => exact ⟨rfl, wy.2.1⟩
          | .inr (.inl a), .inr (.inr b), _, _, wy => exact ⟨rfl, wy.2.1⟩
          | .inl _, .inl _, h, _, _ => cases h
          | .inl _, .inr (.inl _), h, _, _ => cases h
          | .inr (.inl _), .inl _, h, _, _ => cases h
          | .inr (.inl _), .inr (.inl _), h, _, _ => cases h
        have main : ∀ m i (s' : MS) (Rs : List (List Int32)), i + m = zlen2 X Y → Rs.length = i → (∀ k, k < i → zr2 sg (zrv X) (zrv Y) (zrw X k) (zrw Y k) = some (Rs.getD k [])) → zis Rs = zis ((zbig X Y).take i) → (∀ r ∈ Rs, r.length ≤ 64) → MAcc b n s0 (b + 2 * i + zis Rs) (Rs.map zR) s' → ExM l E w (d + 4) MX10_two 354 (tw354 w (zsM sg) kx xv ky yv (nI n) (fl (zdv sg)) (fl true) (nI (zlen2 X Y)) (nI i)) [] s' Q := by
          intro m
          induction m with
          | zero =>
            intro i s' Rs hi hRl hRk hRz hR6 hA
            have hi : i = zlen2 X Y := hi
            have hz := zis_take_le (zbig X Y) i
            refine vX10_two_354 (pk_le (zlen2 X Y) i (fun _ => ⟨fun c => absurd c (by decide), fun _ => ?_⟩) (fun c => by omega) rfl rfl)
            have hall2 : zallS ((List.range (zlen2 X Y)).map (fun k => zr2 sg (zrv X) (zrv Y) (zrw X k) (zrw Y k))) = some Rs := by
              refine zallS_some _ _ (by rw [List.length_map, List.length_range]; omega) (fun k hk => ?_)
              rw [List.length_map, List.length_range] at hk
              rw [getD_map _ _ 0 none (by rw [List.length_range]; exact hk), getD_lt 0 (by rw [List.length_range]; exact hk), List.getElem_range]
              exact hRk k (by omega)
            rw [hall2] at hQ
            have hw : ZW (zT Rs) := ⟨by omega, by omega, hR6⟩
            refine M_btab hst hA hR6 hb (by omega) (by omega) (by omega) hmd hm3 h0 (fun s'' q => ⟨rfl, hQ s'' ?_⟩)
            rw [zmk_ok hw] at q
            exact q
          | succ m ih =>
            intro i s' Rs hi hRl hRk hRz hR6 hA
            have hz := zis_take_le (zbig X Y) i
            have hz2 := zis_take_le (zbig X Y) (i + 1)
            have hts := take_succ_getD (zbig X Y) [] i (by omega)
            have hza : zis ((zbig X Y).take (i + 1)) = zis ((zbig X Y).take i) + ((zbig X Y).getD i []).length := by rw [hts, zis_app, zis_cons, zis_nil]; rfl
            have hbi := hbig i (by omega)
            have hl6 := hL64 i
            refine M_tw354 hst hs hx hy (hRX i (by omega)) (hRY i (by omega)) (hXYk i) (hall i (by omega)) (by omega) (by omega) hl6 hb (by omega) (by rw [List.length_map]; omega) hmd h0 (fun hnone s'' q => ?_) (fun r a14 a15 hr hrl s'' hA2 => ?_) hA
            · rw [zallS_none _ (List.mem_map.mpr ⟨i, List.mem_range.mpr (by omega), hnone⟩)] at hQ
              exact hQ s'' q
            · refine vX10_two_414 (pk_le _ _ (fun _ => ⟨fun c => absurd c (by decide), fun _ => ?_⟩) (fun c => by omega) rfl rfl)
              refine hA2.rowOf hst (by rw [hrl]; omega) (by rw [List.length_map]; omega) (fun s3 q3 => ⟨rfl, ?_⟩)
              rw [nI_1]
              refine ih (i + 1) s3 (Rs ++ [r]) (by omega) (by rw [List.length_append, hRl]; rfl) (fun k hk => ?_) ?_ ?_ ?_
              · by_cases e : k = i
                · subst e
                  rw [hr, ← hRl, getD_last]
                · rw [getD_app1 _ _ (by omega)]
                  exact hRk k (by omega)
              · rw [zis_app, zis_cons, zis_nil, hza, hRz]; omega
              · intro r' hr'
                rcases List.mem_append.mp hr' with h | h
                · exact hR6 r' h
                · rw [List.mem_singleton.mp h, hrl]; exact hl6
              · rw [List.map_append, zis_app, zis_cons, zis_nil]
                have e : b + 2 * i + zis Rs + 2 + r.length = b + 2 * (i + 1) + (zis Rs + (r.length + 0)) := by omega
                rw [e] at q3
                exact q3
        exact main (zlen2 X Y) 0 s [] (by omega) rfl (fun k hk => absurd hk (Nat.not_lt_zero k)) rfl (fun r hr => by cases hr) ha
      | false =>
        have hTT : zisT X = false ∧ zisT Y = false := by simpa using hT
        rw [if_neg (by rw [hTT.1, hTT.2]; simp)] at hQ
        have hR1 : zlen2 X Y = 1 := by
          match X, Y, hTT with
          | .inl _, .inl _, _ => rfl
          | .inl _, .inr (.inl _), _ => rfl
          | .inr (.inl _), .inl _, _ => rfl
          | .inr (.inl _), .inr (.inl _), _ => rfl
          | .inr (.inr _), _, h => exact absurd (show true = false from h.1) (by decide)
          | .inl _, .inr (.inr _), h => exact absurd (show true = false from h.2) (by decide)
          | .inr (.inl _), .inr (.inr _), h => exact absurd (show true = false from h.2) (by decide)
        rw [hR1]
        refine M_tw354 hst hs (i := 0) hx hy (hRX 0 (by omega)) (hRY 0 (by omega)) (hXYk 0) (hall 0 (by omega)) (by omega) (by omega) (hL64 0) hb (b1 := b) (by omega) (xs := []) (by show n + 0 ≤ 8400; omega) hmd h0 (fun hnone s'' q => ?_) (fun r a14 a15 hr hrl s'' hA2 => ?_) ha
        · rw [hnone] at hQ
          exact hQ s'' q
        · refine vX10_two_414 (pk_le _ _ (fun _ => ⟨fun _ => ?_, fun c => absurd rfl c⟩) (fun c => by omega) rfl rfl (by have := hL64 0; omega) (by have := hL64 0; omega))
          rw [nI_1]
          refine vX10_two_354 (pk_le 1 1 (fun _ => ⟨fun _ => ?_, fun c => absurd rfl c⟩) (fun c => by omega) rfl rfl)
          rw [hr] at hQ
          refine M_brow hst hA2 hb (by omega) hmd hm3 h0 (fun s3 q => ⟨rfl, hQ s3 ?_⟩)
          rw [zmk_ok (show ZW (zR r) by show r.length ≤ 64; rw [hrl]; exact hL64 0)] at q
          exact q
    have main : ∀ m i, i + m = zlen2 X Y → (∀ k, k < i → zlk (zrw X k) (zrw Y k) = true) → ExM l E w (d + 4) MX10_two 264 (tw264 w (zsM sg) kx xv ky yv (nI n) (fl (zdv sg)) (fl (zisT X || zisT Y)) (nI (zlen2 X Y)) 0 (nI i)) [] s Q := by
      intro m
      induction m with
      | zero =>
        intro i hi hall
        have hi : i = zlen2 X Y := hi
        exact vX10_two_264 (pk_le (zlen2 X Y) i (fun _ => ⟨fun _ => h354 (fun k hk => hall k (by omega)), fun c => absurd rfl c⟩) (fun c => by omega) rfl rfl)
      | succ m ih =>
        intro i hi hall
        have nx : zlk (zrw X i) (zrw Y i) = true → ExM l E w (d + 4) MX10_two 264 (tw264 w (zsM sg) kx xv ky yv (nI n) (fl (zdv sg)) (fl (zisT X || zisT Y)) (nI (zlen2 X Y)) 0 (nI i + 1)) [] s Q := by
          intro hu
          rw [nI_1]
          refine ih (i + 1) (by omega) (fun k hk => ?_)
          by_cases e : k = i
          · rw [e]; exact hu
          · exact hall k (by omega)
        have neg : ((-1 : Int32) < 0) := by decide
        refine vX10_two_264 (pk_le (zlen2 X Y) i (fun c => by omega) (fun _ => ⟨fun c => absurd rfl c, fun _ => ?_⟩) rfl rfl)
        refine M_besA hst ha hx (by omega) (hRX i (by omega)) (fun c => ⟨_, rfl, ?_⟩) (fun q r c hr => ⟨_, rfl, ?_⟩)
        · have hu : zlk (zrw X i) (zrw Y i) = true := by rw [c]; rfl
          refine M_besA hst ha hy (by omega) (hRY i (by omega)) (fun _ => ⟨_, rfl, ?_⟩) (fun q' r' _ _ => ⟨_, rfl, ?_⟩)
          · exact ⟨fun _ => nx hu, fun c => absurd neg c⟩
          · exact ⟨fun _ => nx hu, fun c => absurd neg c⟩
        · have hq := rmT_head hr
          refine M_besA hst ha hy (by omega) (hRY i (by omega)) (fun c2 => ⟨_, rfl, ?_⟩) (fun q' r' c2 hr' => ⟨_, rfl, ?_⟩)
          · have hu : zlk (zrw X i) (zrw Y i) = true := by rw [c, c2]; rfl
            exact ⟨fun c => absurd c (nI_pos (by omega)), fun _ => ⟨fun _ => nx hu, fun c => absurd neg c⟩⟩
          · have hq' := rmT_head hr'
            refine ⟨fun c => absurd c (nI_pos (by omega)), fun _ => ⟨fun c => absurd c (nI_pos (by omega)), fun _ => ?_⟩⟩
            have h6 := hrX i r c
            have h6' := hrY i r' c2
            refine M_sizeA hst ha hr (by omega) ⟨_, rfl, M_sizeA hst ha hr' (by omega) ⟨_, rfl, ?_⟩⟩
            refine pk_eq r.length r'.length (fun ce => nx ?_) (fun ce => h1 _ ?_) rfl rfl
            · rw [c, c2]; exact beq_iff_eq.mpr ce
            · rw [zun_eq, hld, Bool.false_or, zlk_any]
              refine ⟨i, by omega, ?_⟩
              rw [c, c2]
              show (r.length == r'.length) = false
              simpa using ce
    exact main (zlen2 X Y) 0 (by omega) (fun k hk => absurd hk (Nat.not_lt_zero k))
end MT4
