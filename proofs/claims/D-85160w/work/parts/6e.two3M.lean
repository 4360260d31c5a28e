def zL2 (p q : Option (List Int32)) : Nat := match p with
  | some a => a.length
  | none => (q.getD []).length
theorem zr2_eq (s v w : Int32) (p q : Option (List Int32)) : zr2 s v w p q = if zdv s = true ∧ 0 ∈ q.getD (List.replicate (zL2 p q) w) then none else some (List.zipWith (zact s) (p.getD (List.replicate (zL2 p q) v)) (q.getD (List.replicate (zL2 p q) w))) := by
  cases p <;> rfl
theorem zL2_A (p q : Option (List Int32)) (v : Int32) : (p.getD (List.replicate (zL2 p q) v)).length = zL2 p q := by
  cases p with
  | none => exact List.length_replicate
  | some a => rfl
theorem zL2_B (p q : Option (List Int32)) (w : Int32) (h : zlk p q = true) : (q.getD (List.replicate (zL2 p q) w)).length = zL2 p q := by
  cases q with
  | none => exact List.length_replicate
  | some b =>
    cases p with
    | none => rfl
    | some a =>
      have h : (a.length == b.length) = true := h
      exact (beq_iff_eq.mp h).symm
theorem mem0 {B : List Int32} : 0 ∈ B ↔ ∃ j, j < B.length ∧ B.getD j 0 = 0 := by
  constructor
  · intro h
    obtain ⟨j, hj, e⟩ := List.getElem_of_mem h
    exact ⟨j, hj, by rw [getD_lt 0 hj]; exact e⟩
  · rintro ⟨j, hj, e⟩
    rw [← e]; exact getD_mem 0 hj
def zld (x y : Lf) : Bool := match x, y with
  | .inr (.inr a), .inr (.inr b) => a.length != b.length
  | _, _ => false
theorem zun_eq (x y : Lf) : zun x y = (zld x y || (List.range (zlen2 x y)).any (fun k => !zlk (zrw x k) (zrw y k))) := rfl
theorem zallS_some : ∀ (l : List (Option (List Int32))) (r : List (List Int32)), r.length = l.length → (∀ k, k < l.length → l.getD k none = some (r.getD k [])) → zallS l = some r
  | [], [], _, _ => rfl
  | x :: l, y :: r, h, hk => by
    have h0 : x = some y := hk 0 (Nat.succ_pos _)
    subst h0
    show (zallS l).map (y :: ·) = _
    rw [zallS_some l r (Nat.succ.inj h) (fun k hk' => hk (k + 1) (Nat.succ_lt_succ hk'))]
    rfl
  | [], _ :: _, h, _ => by cases h
  | _ :: _, [], h, _ => by cases h
theorem zallS_none : ∀ (l : List (Option (List Int32))), none ∈ l → zallS l = none
  | none :: _, _ => rfl
  | some a :: l, h => by
    show (zallS l).map _ = none
    rw [zallS_none l (by simpa using h)]; rfl
  | [], h => by cases h
section MT3
variable {l : Launch} {E : EN} {w : MO} {d : Nat} {s : MS} {Q : Option Value → MS → Prop}
/-- from 354 to the end of a row -/
theorem M_tw354 (hst : l.stackTraces = false) {sg : Int32} (hs : sg ∈ zSg) {b n md b1 i R : Nat} {s0 : MS} {xs : List Th} {X Y : Lf} {kx xv ky yv a10 : Int32} (hx : rmV (s0.2.2.1 104) b kx xv (.leaf X)) (hy : rmV (s0.2.2.1 104) b ky yv (.leaf Y))
    (hX : ∀ t, X = .inr (.inr t) → i < t.length) (hY : ∀ t, Y = .inr (.inr t) → i < t.length) (hXY : ¬ (zrw X i = none ∧ zrw Y i = none)) (hU : zlk (zrw X i) (zrw Y i) = true) (hi : i < R) (hR : R ≤ 64) (hL : zL2 (zrw X i) (zrw Y i) ≤ 64) (hb : b ≤ 157600) (hb1 : b1 ≤ b + 300) (hn : n + xs.length ≤ 8400) (hmd : s0.1 119 = nI md) (h0 : s0.1 123 = 0)
    (h6 : zr2 sg (zrv X) (zrv Y) (zrw X i) (zrw Y i) = none → ∀ s', mop b n md (.inl 6) s0 s' → Q none s')
    (hK : ∀ r a14 a15, zr2 sg (zrv X) (zrv Y) (zrw X i) (zrw Y i) = some r → r.length = zL2 (zrw X i) (zrw Y i) → ∀ s', MAcc b n s0 b1 (xs ++ r.map zI) s' → ExM l E w (d + 4) MX10_two 414 (tw414 w (zsM sg) kx xv ky yv (nI n) (fl (zdv sg)) a10 (nI R) (nI i) a14 a15 (nI (zL2 (zrw X i) (zrw Y i))) (nI (n + xs.length)) (nI (zL2 (zrw X i) (zrw Y i)))) [] s' Q)
    (hA : MAcc b n s0 b1 xs s) : ExM l E w (d + 4) MX10_two 354 (tw354 w (zsM sg) kx xv ky yv (nI n) (fl (zdv sg)) a10 (nI R) (nI i)) [] s Q := by
  have exv : ∀ X : Lf, ∀ k v, rmV (s0.2.2.1 104) b k v (.leaf X) → zrw X i = none → v = zrv X := by
    intro X k v h hz
    match X, h, hz with
    | .inl x, h, _ => exact (rmV.int h).2
  refine vX10_two_354 (pk_le R i (fun c => by omega) (fun _ => ?_) rfl rfl)
  -- what both rows are
  have key : ∀ (a14 a15 : Int32), ((zrw X i = none ∧ a14 = -1) ∨ ∃ r z, zrw X i = some r ∧ a14 = nI z ∧ rmT (s0.2.2.1 104) b true (zR r) z 0) → ((zrw Y i = none ∧ a15 = -1) ∨ ∃ r z, zrw Y i = some r ∧ a15 = nI z ∧ rmT (s0.2.2.1 104) b true (zR r) z 0) →
      ((a14 < 0 → (EvM l E w (d + 3) MX10_sizeAt [.ref w.1, .int a15] s (fun r s7 => ∃ v8 : Int32, r = some (.int v8) ∧ (∀ y9 : Int32, y9 = (s7.1 108) → ExM l E w (d + 4) MX10_two 414 (tw414 w (zsM sg) kx xv ky yv (nI n) (fl (zdv sg)) a10 (nI R) (nI i) a14 a15 v8 y9 0) [] s7 Q)))) ∧ (¬ a14 < 0 → (EvM l E w (d + 3) MX10_sizeAt [.ref w.1, .int a14] s (fun r s10 => ∃ v11 : Int32, r = some (.int v11) ∧ (∀ y12 : Int32, y12 = (s10.1 108) → ExM l E w (d + 4) MX10_two 414 (tw414 w (zsM sg) kx xv ky yv (nI n) (fl (zdv sg)) a10 (nI R) (nI i) a14 a15 v11 y12 0) [] s10 Q))))) := by
    intro a14 a15 c1 c2
    have ex1 : zrw X i = none → xv = zrv X := exv X kx xv hx
    have ex2 : zrw Y i = none → yv = zrv Y := exv Y ky yv hy
    have fin : ExM l E w (d + 4) MX10_two 414 (tw414 w (zsM sg) kx xv ky yv (nI n) (fl (zdv sg)) a10 (nI R) (nI i) a14 a15 (nI (zL2 (zrw X i) (zrw Y i))) (nI (n + xs.length)) (nI 0)) [] s Q := by
      have eA : (zrw X i).getD (List.replicate (zL2 (zrw X i) (zrw Y i)) xv) = (zrw X i).getD (List.replicate (zL2 (zrw X i) (zrw Y i)) (zrv X)) := by
        cases e : zrw X i with
        | none => rw [ex1 e]
        | some r => rfl
      have eB : (zrw Y i).getD (List.replicate (zL2 (zrw X i) (zrw Y i)) yv) = (zrw Y i).getD (List.replicate (zL2 (zrw X i) (zrw Y i)) (zrv Y)) := by
        cases e : zrw Y i with
        | none => rw [ex2 e]
        | some r => rfl
      have lA := zL2_A (zrw X i) (zrw Y i) xv
      have lB := zL2_B (zrw X i) (zrw Y i) yv hU
      have hz := zr2_eq sg (zrv X) (zrv Y) (zrw X i) (zrw Y i)
      rw [← eA, ← eB] at hz
      refine M_tw414 hst hs c1 c2 lA lB hL hb hb1 hn hmd h0 (fun ⟨j, j1, j2, j3⟩ => ?_) (fun hno s' hs' => ?_) (zL2 (zrw X i) (zrw Y i)) 0 s (by omega) ?_ (fun k hk => absurd hk (Nat.not_lt_zero k))
      · refine h6 ?_
        rw [hz, if_pos ⟨j2, mem0.mpr ⟨j, by rw [lB]; exact j1, j3⟩⟩]
      · refine hK _ a14 a15 ?_ ?_ s' hs'
        · rw [hz, if_neg]
          rintro ⟨z1, z2⟩
          obtain ⟨j, j1, j2⟩ := mem0.mp z2
          exact hno ⟨j, by rw [lB] at j1; exact j1, z1, j2⟩
        · rw [List.length_zipWith, lA, lB, Nat.min_self]
      · rw [List.take_zero, List.map_nil, List.append_nil]; exact hA
    have hsp := hA.sp
    have neg : ((-1 : Int32) < 0) := by decide
    rcases c1 with ⟨e1, rfl⟩ | ⟨r, z, e1, rfl, hr⟩
    · refine ⟨fun _ => ?_, fun c => absurd neg c⟩
      rcases c2 with ⟨e2, _⟩ | ⟨r', z', e2, rfl, hr'⟩
      · exact absurd ⟨e1, e2⟩ hXY
      · refine M_sizeA hst hA hr' (by omega) ⟨_, rfl, fun y ey => ?_⟩
        rw [ey, hsp]
        rw [e1, e2] at fin
        exact fin
    · have hh := rmT_head hr
      refine ⟨fun c => absurd c (nI_pos (by omega)), fun _ => ?_⟩
      refine M_sizeA hst hA hr (by omega) ⟨_, rfl, fun y ey => ?_⟩
      rw [ey, hsp]
      rw [e1] at fin
      exact fin
  refine M_besA hst hA hx (by omega) hX (fun c => ⟨_, rfl, ?_⟩) (fun q r c hr => ⟨_, rfl, ?_⟩)
  · refine M_besA hst hA hy (by omega) hY (fun c2 => absurd ⟨c, c2⟩ hXY) (fun q' r' c2 hr' => ⟨_, rfl, ?_⟩)
    exact key _ _ (Or.inl ⟨c, rfl⟩) (Or.inr ⟨r', q', c2, rfl, hr'⟩)
  · refine M_besA hst hA hy (by omega) hY (fun c2 => ⟨_, rfl, ?_⟩) (fun q' r' c2 hr' => ⟨_, rfl, ?_⟩)
    · exact key _ _ (Or.inr ⟨r, q, c, rfl, hr⟩) (Or.inl ⟨c2, rfl⟩)
    · exact key _ _ (Or.inr ⟨r, q, c, rfl, hr⟩) (Or.inr ⟨r', q', c2, rfl, hr'⟩)
end MT3
