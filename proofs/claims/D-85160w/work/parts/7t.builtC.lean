/-! THE COMPONENT: built-ins, all of them -/
def bsu (b n : Nat) : Prop := (b = 5 ∧ n ≤ 6) ∨ (n = 1 ∧ (b < 3 ∨ b = 4 ∨ (6 ≤ b ∧ b < 19))) ∨ (n = 2 ∧ (b = 3 ∨ (19 ≤ b ∧ b < 28)))
section CBi
variable {l : Launch} {E : EN} {w : CO} {d : Nat} {s : CS} {f : RH} {Q : KO → CS → RH → Prop}
theorem C_bi6 (hst : l.stackTraces = false) {x1 x2 x3 : Int32} (h : ¬ 6 ≤ x1) (hE : EvC l E w d MX6_work [.ref (w.1 6), .int x1, .int x2, .int x3] s f (fun o s' f' => KP o (fun r => r = none ∧ Q (.inl none) s' f') (fun k => Q (.inr k) s' f'))) : EvC l E w (d + 1) MX3_builtIn [.ref (w.1 3), .int x1, .int x2, .int x3] s f Q := eX3_builtIn hst ⟨fun c => absurd c h, fun _ => hE⟩
theorem C_bi7 (hst : l.stackTraces = false) {x1 x2 x3 : Int32} (h : 6 ≤ x1) (hE : EvC l E w d MX7_work [.ref (w.1 7), .int x1, .int x3] s f (fun o s' f' => KP o (fun r => r = none ∧ Q (.inl none) s' f') (fun k => Q (.inr k) s' f'))) : EvC l E w (d + 1) MX3_builtIn [.ref (w.1 3), .int x1, .int x2, .int x3] s f Q := eX3_builtIn hst ⟨fun _ => hE, fun c => absurd h c⟩
theorem C_w9 (hst : l.stackTraces = false) {n md k : Nat} {x : Th} {which place : Int32} (hk : (k = 9 ∧ which = 9) ∨ (k = 10 ∧ which = 10) ∨ (k = 11 ∧ which = 11)) (h : COk E n md [x] s f) (hQ : ∀ o s' f', cop E n md (zbi1 k x) place s f o s' f' → Q o s' f') : EvC l E w (d + 4) MX7_work [.ref (w.1 7), .int which, .int place] s f Q := by
  obtain ⟨hx, wx, h26, h83⟩ := h.v1
  refine eX7_work hst fun y1 ey => ?_
  rw [h26, nI_pred] at ey
  subst ey
  rw [nI_clamp (by omega)]
  refine ⟨inB_n (by omega), _, rfl, hx.isR, ?_⟩
  have hc := C_folds (l := l) (E := E) (w := w) (d := d) (Q := fun o s' f' => KP o (fun r => r = none ∧ Q (.inl none) s' f') (fun k => Q (.inr k) s' f')) (place := place) hst hk h (fun o s' f' q => cop.kp hQ q)
  rcases hk with ⟨rfl, rfl⟩ | ⟨rfl, rfl⟩ | ⟨rfl, rfl⟩
  · exact br_f (by decide) (br_f (by decide) (br_f (by decide) (br_t (by decide) hc)))
  · exact br_f (by decide) (br_f (by decide) (br_f (by decide) (br_t (by decide) hc)))
  · exact br_f (by decide) (br_f (by decide) (br_f (by decide) (br_t (by decide) hc)))
theorem C_w12 (hst : l.stackTraces = false) {n md k : Nat} {x : Th} {which place : Int32} (hk : (k = 12 ∧ which = 12) ∨ (k = 13 ∧ which = 13)) (h : COk E n md [x] s f) (hQ : ∀ o s' f', cop E n md (zbi1 k x) place s f o s' f' → Q o s' f') : EvC l E w (d + 4) MX7_work [.ref (w.1 7), .int which, .int place] s f Q := by
  obtain ⟨hx, wx, h26, h83⟩ := h.v1
  refine eX7_work hst fun y1 ey => ?_
  rw [h26, nI_pred] at ey
  subst ey
  rw [nI_clamp (by omega)]
  refine ⟨inB_n (by omega), _, rfl, hx.isR, ?_⟩
  have hc := C_turns (l := l) (E := E) (w := w) (d := d) (Q := fun o s' f' => KP o (fun r => r = none ∧ Q (.inl none) s' f') (fun k => Q (.inr k) s' f')) (place := place) hst hk h (fun o s' f' q => cop.kp hQ q)
  rcases hk with ⟨rfl, rfl⟩ | ⟨rfl, rfl⟩
  · exact br_f (by decide) (br_f (by decide) (br_f (by decide) (br_f (by decide) (br_t (by decide) hc))))
  · exact br_f (by decide) (br_f (by decide) (br_f (by decide) (br_f (by decide) (br_t (by decide) hc))))
theorem C_w19 (hst : l.stackTraces = false) {n md : Nat} {x y : Th} {which place : Int32} (hw : 19 ≤ which) (h : COk E n md [x, y] s f) (hE : EvC l E w d MX7_ofTwo [.ref (w.1 7), .int which, .int place] s f (fun o s' f' => KP o (fun r => r = none ∧ Q (.inl none) s' f') (fun k => Q (.inr k) s' f'))) : EvC l E w (d + 1) MX7_work [.ref (w.1 7), .int which, .int place] s f Q := by
  obtain ⟨hx, hy, wx, wy, h26, h83⟩ := h.v2
  have hge := Int32.le_iff_toInt_le.mp hw
  have h19 : (19 : Int32).toInt = 19 := by decide
  have ne : ∀ j : Nat, j < 19 → ¬ which = nI j := fun j hj z => by
    rw [z, nI_toInt (by omega)] at hge
    omega
  refine eX7_work hst fun y1 ey => ?_
  have e1 : nI (n + 2) - 1 = nI (n + 1) := nI_pred (n + 1)
  rw [h26, e1] at ey
  subst ey
  rw [nI_clamp (by omega)]
  exact ⟨inB_n (by omega), _, rfl, hy.isR, br_f (ne 6 (by omega)) (br_f (ne 7 (by omega)) (br_f (ne 8 (by omega)) (br_f (by rintro (z | z | z); exact ne 9 (by omega) z; exact ne 10 (by omega) z; exact ne 11 (by omega) z) (br_f (by rintro (z | z); exact ne 12 (by omega) z; exact ne 13 (by omega) z) (br_f (ne 14 (by omega)) (br_f (ne 15 (by omega)) (br_f (ne 16 (by omega)) (br_f (ne 17 (by omega)) (br_f (ne 18 (by omega)) hE)))))))))⟩
theorem C_builtIn (hst : l.stackTraces = false) {n md b : Nat} {A : List Th} {place : Int32} (hs : bsu b A.length) (h : COk E n md A s f) (hQ : ∀ o s' f', cop E n md (abi b A) place s f o s' f' → Q o s' f') : EvC l E w (d + 9) MX3_builtIn [.ref (w.1 3), .int (nI b), .int (nI A.length), .int place] s f Q := by
  rcases hs with ⟨rfl, -⟩ | ⟨hl, hb⟩ | ⟨hl, hb⟩
  · refine C_bi6 hst (by decide) (C_b5 (d := d + 3) hst h (fun o s' f' q => cop.kp hQ q))
  · obtain ⟨x, rfl⟩ : ∃ x, A = [x] := by
      match A, hl with
      | [x], _ => exact ⟨x, rfl⟩
    have hor : b = 0 ∨ b = 1 ∨ b = 2 ∨ b = 4 ∨ b = 6 ∨ b = 7 ∨ b = 8 ∨ b = 9 ∨ b = 10 ∨ b = 11 ∨ b = 12 ∨ b = 13 ∨ b = 14 ∨ b = 15 ∨ b = 16 ∨ b = 17 ∨ b = 18 := by omega
    rcases hor with rfl | rfl | rfl | rfl | rfl | rfl | rfl | rfl | rfl | rfl | rfl | rfl | rfl | rfl | rfl | rfl | rfl
    · exact C_bi6 (x1 := 0) hst (by decide) (C_b0 (d := d + 5) hst h (fun o s' f' q => cop.kp hQ q))
    · exact C_bi6 (x1 := 1) hst (by decide) (C_b1 (d := d + 5) hst h (fun o s' f' q => cop.kp hQ q))
    · exact C_bi6 (x1 := 2) hst (by decide) (C_b2 (d := d + 5) hst h (fun o s' f' q => cop.kp hQ q))
    · exact C_bi6 (x1 := 4) hst (by decide) (C_b4 (d := d + 5) hst h (fun o s' f' q => cop.kp hQ q))
    · exact C_bi7 (x1 := 6) hst (by decide) (C_b6 (d := d + 6) hst h (fun o s' f' q => cop.kp hQ q))
    · exact C_bi7 (x1 := 7) hst (by decide) (C_b7 (d := d + 4) hst h (fun o s' f' q => cop.kp hQ q))
    · exact C_bi7 (x1 := 8) hst (by decide) (C_b8 (d := d + 6) hst h (fun o s' f' q => cop.kp hQ q))
    · exact C_bi7 (x1 := 9) hst (by decide) (C_w9 (d := d + 4) (k := 9) hst (by decide) h (fun o s' f' q => cop.kp hQ q))
    · exact C_bi7 (x1 := 10) hst (by decide) (C_w9 (d := d + 4) (k := 10) hst (by decide) h (fun o s' f' q => cop.kp hQ q))
    · exact C_bi7 (x1 := 11) hst (by decide) (C_w9 (d := d + 4) (k := 11) hst (by decide) h (fun o s' f' q => cop.kp hQ q))
    · exact C_bi7 (x1 := 12) hst (by decide) (C_w12 (d := d + 4) (k := 12) hst (by decide) h (fun o s' f' q => cop.kp hQ q))
    · exact C_bi7 (x1 := 13) hst (by decide) (C_w12 (d := d + 4) (k := 13) hst (by decide) h (fun o s' f' q => cop.kp hQ q))
    · exact C_bi7 (x1 := 14) hst (by decide) (C_b14 (d := d + 5) hst h (fun o s' f' q => cop.kp hQ q))
    · exact C_bi7 (x1 := 15) hst (by decide) (C_back (d := d + 3) hst h (fun o s' f' q => cop.kp hQ q))
    · exact C_bi7 (x1 := 16) hst (by decide) (C_b16 (d := d + 5) hst h (fun o s' f' q => cop.kp hQ q))
    · exact C_bi7 (x1 := 17) hst (by decide) (C_b17 (d := d + 5) hst h (fun o s' f' q => cop.kp hQ q))
    · exact C_bi7 (x1 := 18) hst (by decide) (C_b18 (d := d + 5) hst h (fun o s' f' q => cop.kp hQ q))
  · obtain ⟨x, y, rfl⟩ : ∃ x y, A = [x, y] := by
      match A, hl with
      | [x, y], _ => exact ⟨x, y, rfl⟩
    have hor : b = 3 ∨ b = 19 ∨ b = 20 ∨ b = 21 ∨ b = 22 ∨ b = 23 ∨ b = 24 ∨ b = 25 ∨ b = 26 ∨ b = 27 := by omega
    rcases hor with rfl | rfl | rfl | rfl | rfl | rfl | rfl | rfl | rfl | rfl
    · exact C_bi6 (x1 := 3) hst (by decide) (C_b3 (d := d + 5) hst h (fun o s' f' q => cop.kp hQ q))
    · exact C_bi7 (x1 := 19) hst (by decide) (C_w19 (d := d + 7) hst (by decide) h (C_b19 (d := d + 1) hst h (fun o s' f' q => cop.kp (fun o s' f' q => cop.kp hQ q) q)))
    · exact C_bi7 (x1 := 20) hst (by decide) (C_w19 (d := d + 7) hst (by decide) h (C_b20 (d := d + 1) hst h (fun o s' f' q => cop.kp (fun o s' f' q => cop.kp hQ q) q)))
    · exact C_bi7 (x1 := 21) hst (by decide) (C_w19 (d := d + 7) hst (by decide) h (C_b21 (d := d + 1) hst h (fun o s' f' q => cop.kp (fun o s' f' q => cop.kp hQ q) q)))
    · exact C_bi7 (x1 := 22) hst (by decide) (C_w19 (d := d + 7) hst (by decide) h (C_b22 (d := d + 3) hst h (fun o s' f' q => cop.kp (fun o s' f' q => cop.kp hQ q) q)))
    · exact C_bi7 (x1 := 23) hst (by decide) (C_w19 (d := d + 7) hst (by decide) h (C_b23 (d := d + 1) hst h (fun o s' f' q => cop.kp (fun o s' f' q => cop.kp hQ q) q)))
    · exact C_bi7 (x1 := 24) hst (by decide) (C_w19 (d := d + 7) hst (by decide) h (C_b24 (d := d + 3) hst h (fun o s' f' q => cop.kp (fun o s' f' q => cop.kp hQ q) q)))
    · exact C_bi7 (x1 := 25) hst (by decide) (C_w19 (d := d + 7) hst (by decide) h (C_b25 (d := d + 3) hst h (fun o s' f' q => cop.kp (fun o s' f' q => cop.kp hQ q) q)))
    · exact C_bi7 (x1 := 26) hst (by decide) (C_w19 (d := d + 7) hst (by decide) h (C_b26 (d := d + 3) hst h (fun o s' f' q => cop.kp (fun o s' f' q => cop.kp hQ q) q)))
    · exact C_bi7 (x1 := 27) hst (by decide) (C_w19 (d := d + 7) hst (by decide) h (C_b27 (d := d + 0) hst h (fun o s' f' q => cop.kp (fun o s' f' q => cop.kp hQ q) q)))
end CBi
