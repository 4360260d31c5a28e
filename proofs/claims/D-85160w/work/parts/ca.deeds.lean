/-! ALL DEEDS AND BLOCKS -/
section DD
variable {l : Launch} {E : EN} {w : CO} {wm : MO} {dt d : Nat} {ch : Nat → Nat} {n hf : Nat} {x0 nw na K0 p o ca cap c u z r p1 o1 ca1 cap1 c1 p2 c2 N k m : Nat} {vs vs1 : List Nat} {O O1 O2 : Nat → Od} {A dA : List (Nat × Nat × Nat)} {B B1 : List Tok} {dC : List CE} {s s1 s2 : CS} {f f1 f2 : RH} {Q : KO → CS → RH → Prop}
theorem ck161 {k : Nat} (h : k ∈ [14, 24, 25, 26, 27, 28]) : 161 ∈ CF k ∧ ¬ k = 30 := by
  simp only [List.mem_cons, List.not_mem_nil, or_false] at h
  rcases h with rfl | rfl | rfl | rfl | rfl | rfl <;> decide
set_option maxHeartbeats 8000000 in
theorem R_deed (hst : l.stackTraces = false) (hIH : ∀ p', p < p' → bkS l E w wm dt ch n hf x0 nw na K0 p') : ddS l E w wm dt ch n hf x0 nw na K0 p := by
  intro o ca cap c vs O A B s f d Q h ho1 hns hd hok hbad
  have hsc := h.1.1
  have ht := hsc.tk
  have hr := h.1.2.2.1
  have hkc := h.1.2.1
  have hkw := kw_le (tk ch n p)
  obtain ⟨d, rfl⟩ : ∃ d', d = d' + 8 + 1 := ⟨d - 9, by omega⟩
  have h14 : (tk ch n p).1 ≤ 4 := ht.1.1
  have kw1 : ¬ kw (tk ch n p) = 41 → (tk ch n p).1 = 1 := fun q => by
    by_cases q1 : (tk ch n p).1 = 1
    · exact q1
    · exact absurd (if_neg q1) q
  have fin : dOk l E w wm dt ch n hf x0 nw na p o ca cap c vs O A B s f (fun o s23 f24 => KP o (fun r => ∃ a25 : Nat, r = some (.ref a25) ∧ (∃ k27 : Nat, oc f24 a25 k27 ∧ 161 ∈ CF k27 ∧ ¬ k27 = 30 ∧ f24.2.2.2 ≤ a25 ∧ ∀ f26 : RH, f26 = fset f24 a25 161 (.int (nI (tk ch n p).2.1)) → Q (.inl (some (.ref a25))) s23 f26)) (fun k => Q (.inr k) s23 f24)) := fun v k s3 f1 q1 q2 q3 q4 => ⟨v, rfl, k, q1, (ck161 q2).1, (ck161 q2).2, q3, fun f2 e2 => hok v s3 f2 (q4 f2 e2)⟩
  have asg : ((tk ch n p).1 = 1 → kw (tk ch n p) = 41 → ¬ bt ch n (sk ch n (tk ch n p).2.2.2) = 40) → ((tk ch n p).1 = 1 → ¬ kw (tk ch n p) = 41 → kw (tk ch n p) ∈ [0, 2, 5, 10]) → oc f x0 11 ∧ EvC l E w (d + 8) MX11_assign [.ref x0] s f (fun o s23 f24 => KP o (fun r => ∃ a25 : Nat, r = some (.ref a25) ∧ (∃ k27 : Nat, oc f24 a25 k27 ∧ 161 ∈ CF k27 ∧ ¬ k27 = 30 ∧ f24.2.2.2 ≤ a25 ∧ ∀ f26 : RH, f26 = fset f24 a25 161 (.int (nI (tk ch n p).2.1)) → Q (.inl (some (.ref a25))) s23 f26)) (fun k => Q (.inr k) s23 f24)) := fun q1 q2 => ⟨hr.1.1, D_assign (O := O) hst h hns q1 q2 ho1 (by omega) fin hbad⟩
  have aln : (tk ch n p).1 = 1 → ((11 ≤ kw (tk ch n p) ∧ kw (tk ch n p) < 41) ∨ (kw (tk ch n p) = 41 ∧ bt ch n (sk ch n (tk ch n p).2.2.2) = 40)) → oc f x0 11 ∧ EvC l E w (d + 8) MX11_alone [.ref x0] s f (fun o s23 f24 => KP o (fun r => ∃ a25 : Nat, r = some (.ref a25) ∧ (∃ k27 : Nat, oc f24 a25 k27 ∧ 161 ∈ CF k27 ∧ ¬ k27 = 30 ∧ f24.2.2.2 ≤ a25 ∧ ∀ f26 : RH, f26 = fset f24 a25 161 (.int (nI (tk ch n p).2.1)) → Q (.inl (some (.ref a25))) s23 f26)) (fun k => Q (.inr k) s23 f24)) := fun q1 q2 => ⟨hr.1.1, D_alone (O := O) hst h q1 q2 (by omega) fin hbad⟩
  refine eR11_deed hst ⟨hr.1.1, hr.1.2.1, fun y ey => ?_⟩
  rw [hsc.2.1.1.2.1] at ey
  subst ey
  refine ⟨hr.1.1, hr.1.2.1, C_isW (k := 1) hst hsc (by omega) (hkc.2.2.2.2.2 (42, 1) (by decide)) hkc.2.1 ⟨_, rfl, pk_b (fun n1 => ?_) (fun e => ⟨hr.1.1, D_choice (O := O) hst hIH h (kw1 (by omega)) e ho1 (by omega) fin hbad⟩)⟩⟩
  refine ⟨hr.1.1, hr.1.2.1, C_isW (k := 3) hst hsc (by omega) (hkc.2.2.2.2.2 (43, 3) (by decide)) hkc.2.1 ⟨_, rfl, pk_b (fun n3 => ?_) (fun e => ⟨hr.1.1, D_loop (O := O) hst hIH h (kw1 (by omega)) e ho1 (by omega) fin hbad⟩)⟩⟩
  refine ⟨hr.1.1, hr.1.2.1, C_isW (k := 4) hst hsc (by omega) (hkc.2.2.2.2.2 (44, 4) (by decide)) hkc.2.1 ⟨_, rfl, pk_b (fun n4 => ?_) (fun e => ⟨hr.1.1, D_walk (O := O) hst hIH h (kw1 (by omega)) e ho1 (by omega) fin hbad⟩)⟩⟩
  refine ⟨hr.1.1, hr.1.2.1, C_isW (k := 6) hst hsc (by omega) (hkc.2.2.2.2.2 (45, 6) (by decide)) hkc.2.1 ⟨_, rfl, pk_b (fun n6 => ?_) (fun e => ⟨hr.1.1, D_plain (O := O) (hw := 1) hst h (kw1 (by omega)) e (by omega) (by omega) (by omega) fin hbad⟩)⟩⟩
  refine ⟨hr.1.1, hr.1.2.1, C_isW (k := 7) hst hsc (by omega) (hkc.2.2.2.2.2 (46, 7) (by decide)) hkc.2.1 ⟨_, rfl, pk_b (fun n7 => ?_) (fun e => ⟨hr.1.1, D_plain (O := O) (hw := 2) hst h (kw1 (by omega)) e (by omega) (by omega) (by omega) fin hbad⟩)⟩⟩
  refine ⟨hr.1.1, hr.1.2.1, C_isW (k := 8) hst hsc (by omega) (hkc.2.2.2.2.2 (47, 8) (by decide)) hkc.2.1 ⟨_, rfl, pk_b (fun n8 => ?_) (fun e => ⟨hr.1.1, D_plain (O := O) (hw := 3) hst h (kw1 (by omega)) e (by omega) (by omega) (by omega) fin hbad⟩)⟩⟩
  refine ⟨hr.1.1, hr.1.2.1, C_isW (k := 9) hst hsc (by omega) (hkc.2.2.2.2.2 (48, 9) (by decide)) hkc.2.1 ⟨_, rfl, pk_b (fun n9 => ?_) (fun e => ⟨hr.1.1, D_try (O := O) hst hIH h (kw1 (by omega)) e ho1 (by omega) fin hbad⟩)⟩⟩
  refine ⟨hr.1.1, hr.1.2.1, bn_eq (tk ch n p).1 1 (fun q1 => asg (fun q => absurd q q1) (fun q => absurd q q1)) (fun q1 => ⟨hr.1.1, ?_⟩) hsc.2.1.1.1 rfl⟩
  refine R_builtIn hst hsc hkc hr.1.1 hr.1.2.1 ⟨_, rfl, kbI_ge (fun b1 b2 => aln q1 (Or.inl ⟨b1, b2⟩)) (fun b1 => ⟨hr.1.1, ?_⟩)⟩
  refine R_isReserved hst hsc hkc hr.1.1 hr.1.2.1 ⟨_, rfl, bn_b (fun b2 => ⟨hr.1.1, hr.1.2.1, ?_⟩) (fun b2 => asg (fun _ q => by omega) (fun _ _ => by
    have : kw (tk ch n p) = 0 ∨ kw (tk ch n p) = 2 ∨ kw (tk ch n p) = 5 ∨ kw (tk ch n p) = 10 := by omega
    simp only [List.mem_cons, List.not_mem_nil, or_false]; exact this))⟩
  refine C_isCalled hst hsc.1 hsc.2.1.1.2.2.1 ht.1.2.2.2.2 ⟨_, rfl, pk_b (fun q => asg (fun _ _ => q) (fun _ q2 => by omega)) (fun q => aln q1 (Or.inr ⟨by omega, q⟩))⟩
/-- all of them -/
theorem all_dd (hst : l.stackTraces = false) : ∀ b p, n - p ≤ b → (ddS l E w wm dt ch n hf x0 nw na K0 p ∧ bkS l E w wm dt ch n hf x0 nw na K0 p) ∨ n < p := by
  intro b
  have none : ∀ p', n < p' → ddS l E w wm dt ch n hf x0 nw na K0 p' ∧ bkS l E w wm dt ch n hf x0 nw na K0 p' := fun p' hp => ⟨fun o ca cap c vs O A B s f d Q h => by have := h.num.1; omega, fun o ca cap c vs O A B s f d Q h => by have := h.num.1; omega⟩
  induction b with
  | zero =>
    intro p hb
    by_cases c0 : n < p
    · exact Or.inr c0
    · exact Or.inl ⟨R_deed hst (fun p' hp => (none p' (by omega)).2), R_block hst (fun p' hp => (none p' (by omega)).1)⟩
  | succ b ih =>
    intro p hb
    have ih' : ∀ p', p < p' → ddS l E w wm dt ch n hf x0 nw na K0 p' ∧ bkS l E w wm dt ch n hf x0 nw na K0 p' := fun p' hp => by
      rcases ih p' (by omega) with q | q
      · exact q
      · exact none p' q
    exact Or.inl ⟨R_deed hst (fun p' hp => (ih' p' hp).2), R_block hst (fun p' hp => (ih' p' hp).1)⟩
/-- BLOCK -/
theorem all_bk (hst : l.stackTraces = false) (p : Nat) : bkS l E w wm dt ch n hf x0 nw na K0 p := by
  rcases all_dd (l := l) (E := E) (w := w) (wm := wm) (dt := dt) (ch := ch) (n := n) (hf := hf) (x0 := x0) (nw := nw) (na := na) (K0 := K0) hst (n - p) p (Nat.le_refl _) with q | q
  · exact q.2
  · intro o ca cap c vs O A B s f d Q h
    have := h.num.1
    omega
end DD
