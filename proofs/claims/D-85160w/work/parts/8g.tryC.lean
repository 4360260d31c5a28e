/-! THE COMPONENT'S TREES: try -/
theorem alast_app : ∀ (ex : List Wy) (q : Wy) (r : List Wy), (∀ x ∈ ex, ¬ x.1 = 2) → q.1 = 2 → alast (ex ++ q :: r) = q :: r
  | [], q, r, _, hq => if_pos hq
  | x :: ex, q, r, h, hq => by
    show (if x.1 = 2 then _ else alast (ex ++ q :: r)) = _
    rw [if_neg (h x (List.mem_cons_self ..))]
    exact alast_app ex q r (fun y hy => h y (List.mem_cons_of_mem _ hy)) hq
theorem drop_app {α : Type} (ex r : List α) : (ex ++ r).drop ((ex ++ r).length - r.length) = r := by
  rw [List.length_append, Nat.add_sub_cancel]
  exact List.drop_left
section CD6
variable {l : Launch} {E : EN} {w : CO} {d : Nat} {s s' s0 : CS} {f f' f0 : RH} {Q : KO → CS → RH → Prop} {fuel : Nat} {Bb : Nat × Nat} {P : Pg} {F : Nat → Nat} {C pl A : List Th} {fr fr' : List Fm} {N : List Nat} {wy : List Wy} {sh sh' : Nat → Option Th} {ct ct' : Ct} {out out' : List Int32} {a b t j e n h u u' L p g M nv x y x1 x2 : Nat} {z z1 z2 z3 place on : Int32}
theorem doA_tries (hP : P.1 t = (23, e, n, z, on)) : doA P fuel (t, pl, fr, wy, sh, ct, out, (0, -1, 0)) = (t + 1, pl, fr, (2, none, e, n, 0, pl.length, fr.length, on) :: wy, sh, ct, out, (0, -1, 0)) := by
  have h1 : (P.1 t).1 = 23 := by rw [hP]
  show (if (P.1 t).1 = 1 ∨ (P.1 t).1 = 16 then _ else if (P.1 t).1 = 2 then _ else if (P.1 t).1 = 3 then _ else if (P.1 t).1 < 11 then _ else if (P.1 t).1 = 11 then _ else if (P.1 t).1 = 12 then _ else if (P.1 t).1 = 13 then _ else if (P.1 t).1 = 14 then _ else if (P.1 t).1 = 15 then _ else if (P.1 t).1 = 17 then _ else if (P.1 t).1 = 18 then _ else if (P.1 t).1 = 19 then _ else if (P.1 t).1 = 20 then _ else if (P.1 t).1 = 21 then _ else if (P.1 t).1 = 22 then _ else if (P.1 t).1 = 23 then (t + 1, pl, fr, (2, none, (P.1 t).2.1, (P.1 t).2.2.1, 0, pl.length, fr.length, (P.1 t).2.2.2.2) :: wy, sh, ct, out, (0, -1, 0)) else _) = _
  rw [if_neg (by omega), if_neg (by omega), if_neg (by omega), if_neg (by omega), if_neg (by omega), if_neg (by omega), if_neg (by omega), if_neg (by omega), if_neg (by omega), if_neg (by omega), if_neg (by omega), if_neg (by omega), if_neg (by omega), if_neg (by omega), if_neg (by omega), if_pos h1, hP]
theorem doA_tried {q : Wy} (hP : P.1 t = (24, e, n, z, on)) : doA P fuel (t, pl, fr, q :: wy, sh, ct, out, (0, -1, 0)) = (e, pl, fr, wy, sh, ct, out, (0, -1, 0)) := by
  have h1 : (P.1 t).1 = 24 := by rw [hP]
  show (if (P.1 t).1 = 1 ∨ (P.1 t).1 = 16 then _ else if (P.1 t).1 = 2 then _ else if (P.1 t).1 = 3 then _ else if (P.1 t).1 < 11 then _ else if (P.1 t).1 = 11 then _ else if (P.1 t).1 = 12 then _ else if (P.1 t).1 = 13 then _ else if (P.1 t).1 = 14 then _ else if (P.1 t).1 = 15 then _ else if (P.1 t).1 = 17 then _ else if (P.1 t).1 = 18 then _ else if (P.1 t).1 = 19 then _ else if (P.1 t).1 = 20 then _ else if (P.1 t).1 = 21 then _ else if (P.1 t).1 = 22 then _ else if (P.1 t).1 = 23 then _ else ((P.1 t).2.1, pl, fr, wy, sh, ct, out, (0, -1, 0))) = _
  rw [if_neg (by omega), if_neg (by omega), if_neg (by omega), if_neg (by omega), if_neg (by omega), if_neg (by omega), if_neg (by omega), if_neg (by omega), if_neg (by omega), if_neg (by omega), if_neg (by omega), if_neg (by omega), if_neg (by omega), if_neg (by omega), if_neg (by omega), if_neg (by omega), hP]
/-- a try takes a trouble -/
theorem takeA_try {pc k : Nat} {exp : List Th} {exf frB : List Fm} {exw : List Wy} {r1 r2 : Int32} (hk : k ≤ 9) (hf : frB.length = fr.length) (hw : ∀ q ∈ exw, ¬ q.1 = 2) : takeA (pc, exp ++ pl, exf ++ frB, exw ++ (2, none, e, n, 0, pl.length, fr.length, on) :: wy, sh, ct, out, (k, r1, r2)) = (e, pl, aputF frB n (zI (if k = 9 then r2 else nI k)), wy, aputS sh n (zI (if k = 9 then r2 else nI k)), (ct.1, ct.2.1 + 300, ct.2.2.1, ct.2.2.2 + 1), out, if 3000 < ct.2.1 + 300 then (11, on, 0) else (0, -1, 0)) := by
  have ha := alast_app exw (2, none, e, n, 0, pl.length, fr.length, on) wy hw rfl
  unfold takeA
  simp only [ha]
  rw [if_neg (by omega), drop_app, ← hf, drop_app]
end CD6
