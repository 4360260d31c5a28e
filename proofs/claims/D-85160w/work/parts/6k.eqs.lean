/-! the built-ins, one by one -/
theorem zbi1_0 (x : Th) : zbi1 0 x = (if zk x ≠ 0 then .inl 3 else if 64 < (zv x).toInt then .inl 2 else if zv x < 0 then .inl 1 else .inr (zR (List.replicate (zv x).toNatClampNeg 0))) := by
  unfold zbi1
  simp only [show (0 < 3) by decide, show ¬ (0 = 4) by decide, show ¬ (0 = 6) by decide, show ¬ (0 = 7) by decide, show ¬ (0 = 8) by decide, show (0 < 12) by decide, show (0 < 14) by decide, show ¬ (0 = 14) by decide, show ¬ (0 = 15) by decide, show ¬ (0 = 16) by decide, show ¬ (0 = 17) by decide, show ¬ (0 = 2) by decide, show (0 = 0) by decide, show ¬ (0 = 1) by decide, show ¬ (0 = 9) by decide, show ¬ (0 = 12) by decide, if_true, if_false]
theorem zbi1_1 (x : Th) : zbi1 1 x = (if zk x ≠ 0 then .inl 3 else if 64 < (zv x).toInt then .inl 2 else if zv x < 0 then .inl 1 else .inr (zR ((List.range (zv x).toNatClampNeg).map nI))) := by
  unfold zbi1
  simp only [show (1 < 3) by decide, show ¬ (1 = 4) by decide, show ¬ (1 = 6) by decide, show ¬ (1 = 7) by decide, show ¬ (1 = 8) by decide, show (1 < 12) by decide, show (1 < 14) by decide, show ¬ (1 = 14) by decide, show ¬ (1 = 15) by decide, show ¬ (1 = 16) by decide, show ¬ (1 = 17) by decide, show ¬ (1 = 2) by decide, show ¬ (1 = 0) by decide, show (1 = 1) by decide, show ¬ (1 = 9) by decide, show ¬ (1 = 12) by decide, if_true, if_false]
theorem zbi1_2 (x : Th) : zbi1 2 x = (if zk x ≠ 0 then .inl 3 else if 20 < (zv x).toInt then .inl 2 else if zv x < 0 then .inl 1 else .inr (zP (List.replicate (zv x).toNatClampNeg (zI 0)))) := by
  unfold zbi1
  simp only [show (2 < 3) by decide, show ¬ (2 = 4) by decide, show ¬ (2 = 6) by decide, show ¬ (2 = 7) by decide, show ¬ (2 = 8) by decide, show (2 < 12) by decide, show (2 < 14) by decide, show ¬ (2 = 14) by decide, show ¬ (2 = 15) by decide, show ¬ (2 = 16) by decide, show ¬ (2 = 17) by decide, show (2 = 2) by decide, show ¬ (2 = 0) by decide, show ¬ (2 = 1) by decide, show ¬ (2 = 9) by decide, show ¬ (2 = 12) by decide, if_true, if_false]
theorem zbi1_4 (x : Th) : zbi1 4 x = (if zk x ≠ 1 then .inl 3 else if 20 < (zr x).length ∨ (∃ v ∈ zr x, 64 < v.toInt) ∨ 200 < ((zr x).map Int32.toNatClampNeg).sum then .inl 2 else if ∃ v ∈ zr x, v < 0 then .inl 1 else .inr (zT ((zr x).map (fun v => List.replicate v.toNatClampNeg 0)))) := by
  unfold zbi1
  simp only [show ¬ (4 < 3) by decide, show (4 = 4) by decide, show ¬ (4 = 6) by decide, show ¬ (4 = 7) by decide, show ¬ (4 = 8) by decide, show (4 < 12) by decide, show (4 < 14) by decide, show ¬ (4 = 14) by decide, show ¬ (4 = 15) by decide, show ¬ (4 = 16) by decide, show ¬ (4 = 17) by decide, show ¬ (4 = 2) by decide, show ¬ (4 = 0) by decide, show ¬ (4 = 1) by decide, show ¬ (4 = 9) by decide, show ¬ (4 = 12) by decide, if_true, if_false]
theorem zbi1_6 (x : Th) : zbi1 6 x = (if zk x = 0 then .inl 3 else .inr (zI (nI (zn x)))) := by
  unfold zbi1
  simp only [show ¬ (6 < 3) by decide, show ¬ (6 = 4) by decide, show (6 = 6) by decide, show ¬ (6 = 7) by decide, show ¬ (6 = 8) by decide, show (6 < 12) by decide, show (6 < 14) by decide, show ¬ (6 = 14) by decide, show ¬ (6 = 15) by decide, show ¬ (6 = 16) by decide, show ¬ (6 = 17) by decide, show ¬ (6 = 2) by decide, show ¬ (6 = 0) by decide, show ¬ (6 = 1) by decide, show ¬ (6 = 9) by decide, show ¬ (6 = 12) by decide, if_true, if_false]
theorem zbi1_7 (x : Th) : zbi1 7 x = (if zk x ≠ 2 then .inl 3 else .inr (zR ((zt x).map (fun r => nI r.length)))) := by
  unfold zbi1
  simp only [show ¬ (7 < 3) by decide, show ¬ (7 = 4) by decide, show ¬ (7 = 6) by decide, show (7 = 7) by decide, show ¬ (7 = 8) by decide, show (7 < 12) by decide, show (7 < 14) by decide, show ¬ (7 = 14) by decide, show ¬ (7 = 15) by decide, show ¬ (7 = 16) by decide, show ¬ (7 = 17) by decide, show ¬ (7 = 2) by decide, show ¬ (7 = 0) by decide, show ¬ (7 = 1) by decide, show ¬ (7 = 9) by decide, show ¬ (7 = 12) by decide, if_true, if_false]
theorem zbi1_8 (x : Th) : zbi1 8 x = (.inr (zI (nI (zk x)))) := by
  unfold zbi1
  simp only [show ¬ (8 < 3) by decide, show ¬ (8 = 4) by decide, show ¬ (8 = 6) by decide, show ¬ (8 = 7) by decide, show (8 = 8) by decide, show (8 < 12) by decide, show (8 < 14) by decide, show ¬ (8 = 14) by decide, show ¬ (8 = 15) by decide, show ¬ (8 = 16) by decide, show ¬ (8 = 17) by decide, show ¬ (8 = 2) by decide, show ¬ (8 = 0) by decide, show ¬ (8 = 1) by decide, show ¬ (8 = 9) by decide, show ¬ (8 = 12) by decide, if_true, if_false]
theorem zbi1_15 (x : Th) : zbi1 15 x = (if zk x = 0 then .inl 3 else .inr (zof (zk x) (ze x).reverse)) := by
  unfold zbi1
  simp only [show ¬ (15 < 3) by decide, show ¬ (15 = 4) by decide, show ¬ (15 = 6) by decide, show ¬ (15 = 7) by decide, show ¬ (15 = 8) by decide, show ¬ (15 < 12) by decide, show ¬ (15 < 14) by decide, show ¬ (15 = 14) by decide, show (15 = 15) by decide, show ¬ (15 = 16) by decide, show ¬ (15 = 17) by decide, show ¬ (15 = 2) by decide, show ¬ (15 = 0) by decide, show ¬ (15 = 1) by decide, show ¬ (15 = 9) by decide, show ¬ (15 = 12) by decide, if_true, if_false]
theorem zbi1_16 (x : Th) : (zflat x = none → zbi1 16 x = .inl 3) ∧ ∀ a, zflat x = some a → zbi1 16 x = if 64 < a.length then .inl 2 else .inr (zR a) := by
  unfold zbi1
  simp only [show ¬ (16 < 3) by decide, show ¬ (16 = 4) by decide, show ¬ (16 = 6) by decide, show ¬ (16 = 7) by decide, show ¬ (16 = 8) by decide, show ¬ (16 < 12) by decide, show ¬ (16 < 14) by decide, show ¬ (16 = 14) by decide, show ¬ (16 = 15) by decide, show (16 = 16) by decide, show ¬ (16 = 17) by decide, show ¬ (16 = 2) by decide, show ¬ (16 = 0) by decide, show ¬ (16 = 1) by decide, show ¬ (16 = 9) by decide, show ¬ (16 = 12) by decide, if_true, if_false]
  exact ⟨fun h => by rw [h], fun a h => by rw [h]⟩
theorem zbi1_17 (x : Th) : zbi1 17 x = (if zk x ≠ 2 then .inl 3 else if 20 < zmax ((zt x).map List.length) then .inl 2 else .inr (zT (zturn (zt x)))) := by
  unfold zbi1
  simp only [show ¬ (17 < 3) by decide, show ¬ (17 = 4) by decide, show ¬ (17 = 6) by decide, show ¬ (17 = 7) by decide, show ¬ (17 = 8) by decide, show ¬ (17 < 12) by decide, show ¬ (17 < 14) by decide, show ¬ (17 = 14) by decide, show ¬ (17 = 15) by decide, show ¬ (17 = 16) by decide, show (17 = 17) by decide, show ¬ (17 = 2) by decide, show ¬ (17 = 0) by decide, show ¬ (17 = 1) by decide, show ¬ (17 = 9) by decide, show ¬ (17 = 12) by decide, if_true, if_false]
theorem zbi1_18 (x : Th) : zbi1 18 x = (if zk x ≠ 1 then .inl 3 else if 20 < zmost (zr x) then .inl 2 else if ∃ v ∈ zr x, v < 0 then .inl 1 else .inr (zT (zgroup (zr x)))) := by
  unfold zbi1
  simp only [show ¬ (18 < 3) by decide, show ¬ (18 = 4) by decide, show ¬ (18 = 6) by decide, show ¬ (18 = 7) by decide, show ¬ (18 = 8) by decide, show ¬ (18 < 12) by decide, show ¬ (18 < 14) by decide, show ¬ (18 = 14) by decide, show ¬ (18 = 15) by decide, show ¬ (18 = 16) by decide, show ¬ (18 = 17) by decide, show ¬ (18 = 2) by decide, show ¬ (18 = 0) by decide, show ¬ (18 = 1) by decide, show ¬ (18 = 9) by decide, show ¬ (18 = 12) by decide, if_true, if_false]
theorem zbi1_9 (x : Th) : (zk x = 0 → zbi1 9 x = .inr x) ∧ (zk x = 1 → (∀ v, zfold 9 (zr x) = some v → zbi1 9 x = .inr (zI v)) ∧ (zfold 9 (zr x) = none → zbi1 9 x = .inl 5)) ∧ (zk x = 2 → (∀ v, zfolds 9 (zt x) = some v → zbi1 9 x = .inr (zR v)) ∧ (zfolds 9 (zt x) = none → zbi1 9 x = .inl 5)) ∧ (zk x = 3 → zbi1 9 x = .inl 3) := by
  unfold zbi1
  simp only [show ¬ (9 < 3) by decide, show ¬ (9 = 4) by decide, show ¬ (9 = 6) by decide, show ¬ (9 = 7) by decide, show ¬ (9 = 8) by decide, show (9 < 12) by decide, show (9 < 14) by decide, show ¬ (9 = 14) by decide, show ¬ (9 = 15) by decide, show ¬ (9 = 16) by decide, show ¬ (9 = 17) by decide, show ¬ (9 = 2) by decide, show ¬ (9 = 0) by decide, show ¬ (9 = 1) by decide, show (9 = 9) by decide, show ¬ (9 = 12) by decide, if_true, if_false]
  refine ⟨fun h => by rw [if_pos h], fun h => ⟨fun v e => ?_, fun e => ?_⟩, fun h => ⟨fun v e => ?_, fun e => ?_⟩, fun h => ?_⟩
  · rw [if_neg (by omega), if_pos h, e]
  · rw [if_neg (by omega), if_pos h, e]
  · rw [if_neg (by omega), if_neg (by omega), if_pos h, e]
  · rw [if_neg (by omega), if_neg (by omega), if_pos h, e]
  · rw [if_neg (by omega), if_neg (by omega), if_neg (by omega)]
theorem zbi1_10 (x : Th) : (zk x = 0 → zbi1 10 x = .inl 3) ∧ (zk x = 1 → (∀ v, zfold 10 (zr x) = some v → zbi1 10 x = .inr (zI v)) ∧ (zfold 10 (zr x) = none → zbi1 10 x = .inl 5)) ∧ (zk x = 2 → (∀ v, zfolds 10 (zt x) = some v → zbi1 10 x = .inr (zR v)) ∧ (zfolds 10 (zt x) = none → zbi1 10 x = .inl 5)) ∧ (zk x = 3 → zbi1 10 x = .inl 3) := by
  unfold zbi1
  simp only [show ¬ (10 < 3) by decide, show ¬ (10 = 4) by decide, show ¬ (10 = 6) by decide, show ¬ (10 = 7) by decide, show ¬ (10 = 8) by decide, show (10 < 12) by decide, show (10 < 14) by decide, show ¬ (10 = 14) by decide, show ¬ (10 = 15) by decide, show ¬ (10 = 16) by decide, show ¬ (10 = 17) by decide, show ¬ (10 = 2) by decide, show ¬ (10 = 0) by decide, show ¬ (10 = 1) by decide, show ¬ (10 = 9) by decide, show ¬ (10 = 12) by decide, if_true, if_false]
  refine ⟨fun h => by rw [if_pos h], fun h => ⟨fun v e => ?_, fun e => ?_⟩, fun h => ⟨fun v e => ?_, fun e => ?_⟩, fun h => ?_⟩
  · rw [if_neg (by omega), if_pos h, e]
  · rw [if_neg (by omega), if_pos h, e]
  · rw [if_neg (by omega), if_neg (by omega), if_pos h, e]
  · rw [if_neg (by omega), if_neg (by omega), if_pos h, e]
  · rw [if_neg (by omega), if_neg (by omega), if_neg (by omega)]
theorem zbi1_11 (x : Th) : (zk x = 0 → zbi1 11 x = .inl 3) ∧ (zk x = 1 → (∀ v, zfold 11 (zr x) = some v → zbi1 11 x = .inr (zI v)) ∧ (zfold 11 (zr x) = none → zbi1 11 x = .inl 5)) ∧ (zk x = 2 → (∀ v, zfolds 11 (zt x) = some v → zbi1 11 x = .inr (zR v)) ∧ (zfolds 11 (zt x) = none → zbi1 11 x = .inl 5)) ∧ (zk x = 3 → zbi1 11 x = .inl 3) := by
  unfold zbi1
  simp only [show ¬ (11 < 3) by decide, show ¬ (11 = 4) by decide, show ¬ (11 = 6) by decide, show ¬ (11 = 7) by decide, show ¬ (11 = 8) by decide, show (11 < 12) by decide, show (11 < 14) by decide, show ¬ (11 = 14) by decide, show ¬ (11 = 15) by decide, show ¬ (11 = 16) by decide, show ¬ (11 = 17) by decide, show ¬ (11 = 2) by decide, show ¬ (11 = 0) by decide, show ¬ (11 = 1) by decide, show ¬ (11 = 9) by decide, show ¬ (11 = 12) by decide, if_true, if_false]
  refine ⟨fun h => by rw [if_pos h], fun h => ⟨fun v e => ?_, fun e => ?_⟩, fun h => ⟨fun v e => ?_, fun e => ?_⟩, fun h => ?_⟩
  · rw [if_neg (by omega), if_pos h, e]
  · rw [if_neg (by omega), if_pos h, e]
  · rw [if_neg (by omega), if_neg (by omega), if_pos h, e]
  · rw [if_neg (by omega), if_neg (by omega), if_pos h, e]
  · rw [if_neg (by omega), if_neg (by omega), if_neg (by omega)]
theorem zbi2_3 (x y : Th) : zbi2 3 x y = (if zk x ≠ 0 ∨ zk y ≠ 0 then .inl 3 else if 20 < (zv x).toInt ∨ 64 < (zv y).toInt ∨ (0 ≤ (zv x).toInt ∧ 0 ≤ (zv y).toInt ∧ 200 < (zv x).toInt * (zv y).toInt) then .inl 2 else if zv x < 0 ∨ zv y < 0 then .inl 1 else .inr (zT (List.replicate (zv x).toNatClampNeg (List.replicate (zv y).toNatClampNeg 0)))) := by
  unfold zbi2
  simp only [show (3 = 3) by decide, show ¬ (3 = 19) by decide, show ¬ (3 = 20) by decide, show ¬ (3 = 21) by decide, show ¬ (3 = 22) by decide, show ¬ (3 = 23) by decide, show ¬ (3 = 24) by decide, show ¬ (3 = 25) by decide, show ¬ (3 = 26) by decide, if_true, if_false]
theorem zbi2_19 (x y : Th) : zbi2 19 x y = (zjoin x y) := by
  unfold zbi2
  simp only [show ¬ (19 = 3) by decide, show (19 = 19) by decide, show ¬ (19 = 20) by decide, show ¬ (19 = 21) by decide, show ¬ (19 = 22) by decide, show ¬ (19 = 23) by decide, show ¬ (19 = 24) by decide, show ¬ (19 = 25) by decide, show ¬ (19 = 26) by decide, if_true, if_false]
theorem zbi2_20 (x y : Th) : zbi2 20 x y = (if zk x ≠ 0 ∨ zk y = 0 then .inl 3 else if (if zk y = 1 then 64 else 20) < zneg (zv x) then .inl 2 else zmk (zof (zk y) (zstr (zdf (zk y)) (ze y) (if zv x < 0 then zn y + (zv x).toInt else 0) (zneg (zv x)).toNat))) := by
  unfold zbi2
  simp only [show ¬ (20 = 3) by decide, show ¬ (20 = 19) by decide, show (20 = 20) by decide, show ¬ (20 = 21) by decide, show ¬ (20 = 22) by decide, show ¬ (20 = 23) by decide, show ¬ (20 = 24) by decide, show ¬ (20 = 25) by decide, show ¬ (20 = 26) by decide, if_true, if_false]
theorem zbi2_21 (x y : Th) : zbi2 21 x y = (if zk x ≠ 0 ∨ zk y = 0 then .inl 3 else zmk (zof (zk y) (if zv x < 0 then (ze y).take ((zn y : Int) - zneg (zv x)).toNat else (ze y).drop (zneg (zv x)).toNat))) := by
  unfold zbi2
  simp only [show ¬ (21 = 3) by decide, show ¬ (21 = 19) by decide, show ¬ (21 = 20) by decide, show (21 = 21) by decide, show ¬ (21 = 22) by decide, show ¬ (21 = 23) by decide, show ¬ (21 = 24) by decide, show ¬ (21 = 25) by decide, show ¬ (21 = 26) by decide, if_true, if_false]
theorem zbi2_22 (x y : Th) : zbi2 22 x y = (if zk x ≠ 1 ∨ zk y ≠ 1 then .inl 3 else if 20 < (zr y).length then .inl 2 else if ∃ v ∈ zr y, v < 0 then .inl 1 else if zsumI (zr y) ≠ (zr x).length then .inl 4 else .inr (zT (zcut (zr x) (zr y)))) := by
  unfold zbi2
  simp only [show ¬ (22 = 3) by decide, show ¬ (22 = 19) by decide, show ¬ (22 = 20) by decide, show ¬ (22 = 21) by decide, show (22 = 22) by decide, show ¬ (22 = 23) by decide, show ¬ (22 = 24) by decide, show ¬ (22 = 25) by decide, show ¬ (22 = 26) by decide, if_true, if_false]
theorem zbi2_23 (x y : Th) : zbi2 23 x y = (if zk x = 0 ∨ zk y ≠ 1 then .inl 3 else if zn x ≠ (zr y).length then .inl 4 else zmk (zof (zk x) (zpick (ze x) (zr y)))) := by
  unfold zbi2
  simp only [show ¬ (23 = 3) by decide, show ¬ (23 = 19) by decide, show ¬ (23 = 20) by decide, show ¬ (23 = 21) by decide, show ¬ (23 = 22) by decide, show (23 = 23) by decide, show ¬ (23 = 24) by decide, show ¬ (23 = 25) by decide, show ¬ (23 = 26) by decide, if_true, if_false]
theorem zbi2_24 (x y : Th) : zbi2 24 x y = (if zk x ≠ 1 ∨ 1 < zk y then .inl 3 else if zk y = 0 then .inr (zI (zfind (zr x) (zv y))) else .inr (zR ((zr y).map (zfind (zr x))))) := by
  unfold zbi2
  simp only [show ¬ (24 = 3) by decide, show ¬ (24 = 19) by decide, show ¬ (24 = 20) by decide, show ¬ (24 = 21) by decide, show ¬ (24 = 22) by decide, show ¬ (24 = 23) by decide, show (24 = 24) by decide, show ¬ (24 = 25) by decide, show ¬ (24 = 26) by decide, if_true, if_false]
theorem zbi2_25 (x y : Th) : zbi2 25 x y = (if zk x ≠ 2 ∨ zk y ≠ 0 then .inl 3 else if 64 < (zv y).toInt ∨ 200 < (zn x : Int) * (zv y).toInt then .inl 2 else if zv y < 0 then .inl 1 else .inr (zT ((zt x).map (fun r => (r ++ List.replicate (zv y).toNatClampNeg 0).take (zv y).toNatClampNeg)))) := by
  unfold zbi2
  simp only [show ¬ (25 = 3) by decide, show ¬ (25 = 19) by decide, show ¬ (25 = 20) by decide, show ¬ (25 = 21) by decide, show ¬ (25 = 22) by decide, show ¬ (25 = 23) by decide, show ¬ (25 = 24) by decide, show (25 = 25) by decide, show ¬ (25 = 26) by decide, if_true, if_false]
theorem zbi2_26 (x y : Th) : zbi2 26 x y = (if zk x ≠ 1 ∨ zk y ≠ 1 then .inl 3 else if 20 < (zr x).length ∨ 200 < (zr x).length * (zr y).length then .inl 2 else .inr (zT ((zr x).map (fun a => (zr y).map (fun b => a * b))))) := by
  unfold zbi2
  simp only [show ¬ (26 = 3) by decide, show ¬ (26 = 19) by decide, show ¬ (26 = 20) by decide, show ¬ (26 = 21) by decide, show ¬ (26 = 22) by decide, show ¬ (26 = 23) by decide, show ¬ (26 = 24) by decide, show ¬ (26 = 25) by decide, show (26 = 26) by decide, if_true, if_false]
theorem zbi2_27 (x y : Th) : zbi2 27 x y = (.inr (zI (@ite _ (x = y) (Classical.propDecidable _) 1 0))) := by
  unfold zbi2
  simp only [show ¬ (27 = 3) by decide, show ¬ (27 = 19) by decide, show ¬ (27 = 20) by decide, show ¬ (27 = 21) by decide, show ¬ (27 = 22) by decide, show ¬ (27 = 23) by decide, show ¬ (27 = 24) by decide, show ¬ (27 = 25) by decide, show ¬ (27 = 26) by decide, if_true, if_false]
