/-! THE MODEL: what is laid down at a place of its own -/
def znb (x : Th) : Nat := 2 + (if zk x = 3 then 2 * zn x else zn x)
def zWz (x : Th) : Nat := 4 * zb x - 2
/-- the parts that lie elsewhere -/
def zch (x : Th) : List Th := (ze x).filter (fun t => !(zk t == 0))
def zD (Ts : List Th) (k : Nat) : Nat := ((Ts.take k).map znb).sum
def zpt (x : Th) (i : Nat) : Nat := if zk x = 2 then 2 + i else 3 + 2 * i
theorem znb_P (l : List Th) : znb (zP l) = 2 + 2 * l.length := by
  have h3 : zk (zP l) = 3 := rfl
  have hn : zn (zP l) = l.length := by show (zl (zsp l)).length = _; rw [zl_zsp]
  unfold znb
  rw [if_pos h3, hn]
theorem zD_succ {Ts : List Th} {k : Nat} (h : k < Ts.length) : zD Ts (k + 1) = zD Ts k + znb (Ts.getD k (zI 0)) := by
  unfold zD
  rw [take_succ_getD Ts (zI 0) k h, List.map_append, List.sum_append]
  rfl
theorem zD_app {Ts : List Th} (R : List Th) {k : Nat} (h : k ≤ Ts.length) : zD (Ts ++ R) k = zD Ts k := by
  unfold zD
  rw [List.take_append_of_le_length h]
theorem zD_le (Ts : List Th) (j : Nat) : ∀ n, zD Ts j ≤ zD Ts (j + n)
  | 0 => Nat.le_refl _
  | n + 1 => by
    refine Nat.le_trans (zD_le Ts j n) ?_
    by_cases c : j + n < Ts.length
    · show zD Ts (j + n) ≤ zD Ts (j + n + 1)
      rw [zD_succ c]; exact Nat.le_add_right ..
    · have e : zD Ts (j + (n + 1)) = zD Ts (j + n) := by
        unfold zD
        rw [List.take_of_length_le (by omega), List.take_of_length_le (by omega)]
      rw [e]; exact Nat.le_refl _
theorem zD_mono {Ts : List Th} {j k : Nat} (h : j ≤ k) : zD Ts j ≤ zD Ts k := by
  obtain ⟨n, rfl⟩ := Nat.exists_eq_add_of_le h
  exact zD_le Ts j n
theorem zD_all (Ts : List Th) : zD Ts Ts.length = (Ts.map znb).sum := by unfold zD; rw [List.take_length]
theorem nI_shift (o a b : Nat) : nI (o + a) - nI (o + b) = nI a - nI b := by
  have h1 : nI (o + a) = nI a + nI o := by rw [nI_add, Nat.add_comm]
  have h2 : (nI a - nI b) + nI (o + b) = nI (o + a) := by
    rw [h1, Nat.add_comm o b, ← nI_add b o, ← Int32.add_assoc, Int32.sub_add_cancel]
  rw [← h2, Int32.add_sub_cancel]
theorem filt_row (a : List Int32) : (a.map (fun v => (zI v : Th))).filter (fun t => !(zk t == 0)) = [] := by
  rw [List.filter_eq_nil_iff]
  intro t ht
  obtain ⟨v, _, rfl⟩ := List.mem_map.mp ht
  exact fun z => by cases z
theorem filt_tab (a : List (List Int32)) : (a.map (fun v => (zR v : Th))).filter (fun t => !(zk t == 0)) = a.map (fun v => (zR v : Th)) := by
  rw [List.filter_eq_self]
  intro t ht
  obtain ⟨v, _, rfl⟩ := List.mem_map.mp ht
  rfl
theorem sum_tabW : ∀ a : List (List Int32), ((a.map (fun v => (zR v : Th))).map zWz).sum = 2 * a.length + 4 * zis a ∧ ((a.map (fun v => (zR v : Th))).map zb).sum = a.length + zis a
  | [] => ⟨rfl, rfl⟩
  | r :: a => by
    obtain ⟨h1, h2⟩ := sum_tabW a
    have e1 : zWz (zR r) = 4 * (1 + r.length) - 2 := rfl
    have e2 : zb (zR r) = 1 + r.length := rfl
    rw [List.map_cons, List.map_cons, List.sum_cons, List.map_cons, List.sum_cons, h1, h2, zis_cons, List.length_cons]
    show zWz (zR r) + _ = _ ∧ zb (zR r) + _ = _
    rw [e1, e2]
    omega
theorem sum_packW : ∀ l : List Th, 2 * l.length + ((l.filter (fun t => !(zk t == 0))).map zWz).sum ≤ 4 * (l.map zb).sum ∧ ((l.filter (fun t => !(zk t == 0))).map zb).sum ≤ (l.map zb).sum
  | [] => ⟨Nat.le_refl _, Nat.le_refl _⟩
  | x :: r => by
    obtain ⟨h1, h2⟩ := sum_packW r
    have hp := zb_pos x
    rw [List.length_cons, List.map_cons, List.sum_cons]
    by_cases c : zk x = 0
    · rw [List.filter_cons_of_neg (by rw [c]; decide)]
      omega
    · rw [List.filter_cons_of_pos (by rw [beq_false_of_ne c]; rfl), List.map_cons, List.sum_cons, List.map_cons, List.sum_cons]
      unfold zWz
      unfold zWz at h1
      omega
theorem zch_W {x : Th} (hx : ZW x) (hk : ¬ zk x = 0) : znb x + ((zch x).map zWz).sum ≤ zWz x ∧ 1 + ((zch x).map zb).sum ≤ zb x := by
  rcases zcases hx with ⟨v, rfl⟩ | ⟨a, rfl, h1⟩ | ⟨a, rfl, h1, h2, h3⟩ | ⟨l, rfl, h1, h2, h3, h4⟩
  · exact absurd rfl hk
  · have e : zch (zR a) = [] := filt_row a
    rw [e]
    show 2 + a.length + 0 ≤ 4 * (1 + a.length) - 2 ∧ 1 + 0 ≤ 1 + a.length
    omega
  · have e : zch (zT a) = a.map (fun v => (zR v : Th)) := filt_tab a
    rw [e, (sum_tabW a).1, (sum_tabW a).2]
    show 2 + a.length + (2 * a.length + 4 * zis a) ≤ 4 * (1 + a.length + zis a) - 2 ∧ 1 + (a.length + zis a) ≤ 1 + a.length + zis a
    omega
  · have e : zch (zP l) = l.filter (fun t => !(zk t == 0)) := by unfold zch; rw [zl_zP]
    have en := znb_P l
    have ew : zWz (zP l) = 4 * ((l.map zb).sum + 1) - 2 := by unfold zWz; rw [zb_zP]
    obtain ⟨h5, h6⟩ := sum_packW l
    rw [e, en, ew, zb_zP]
    omega
theorem rmT_rg {h : Nat → Int32} {b p : Nat} {t : Th} (k : rmT h b true t p 0) : p + znb t ≤ b ∧ (p + znb t ≤ 19280 ∨ 154240 ≤ p) := by
  match t, k with
  | .leaf (.inr (.inl a)), k =>
    have := k.1
    show p + (2 + a.length) ≤ b ∧ (p + (2 + a.length) ≤ 19280 ∨ 154240 ≤ p)
    omega
  | .leaf (.inr (.inr a)), k =>
    have := k.1
    show p + (2 + a.length) ≤ b ∧ (p + (2 + a.length) ≤ 19280 ∨ 154240 ≤ p)
    omega
  | .branch _ s _, k =>
    have := k.1
    show p + (2 + 2 * (zl s).length) ≤ b ∧ (p + (2 + 2 * (zl s).length) ≤ 19280 ∨ 154240 ≤ p)
    omega
/-- only the places where things may lie count -/
theorem rmI_monoR {h h' : Nat → Int32} {b : Nat} (hc : ∀ a, a < b → (a < 19280 ∨ 154240 ≤ a) → h' a = h a) {p : Nat} {a : List Int32} (k : rmI h b p a) : rmI h' b p a := by
  obtain ⟨h1, h2, h3, h4⟩ := k
  exact ⟨h1, by rw [hc p (by omega) (by omega)]; exact h2, by rw [hc _ (by omega) (by omega)]; exact h3, fun i hi => by rw [hc _ (by omega) (by omega)]; exact h4 i hi⟩
theorem rmT_monoR {h h' : Nat → Int32} {b : Nat} (hc : ∀ a, a < b → (a < 19280 ∨ 154240 ≤ a) → h' a = h a) : ∀ (t : Th), (∀ p j, rmT h b true t p j → rmT h' b true t p j) ∧ ∀ p i, (p + 2 + 2 * (i + (zl t).length) ≤ b ∧ (p + 2 + 2 * (i + (zl t).length) ≤ 19280 ∨ 154240 ≤ p)) → rmT h b false t p i → rmT h' b false t p i := by
  intro t
  induction t with
  | leaf y =>
    refine ⟨fun p j k => ?_, fun _ _ _ _ => trivial⟩
    match y, k with
    | .inr (.inl a), k => exact rmI_monoR hc k
    | .inr (.inr a), k =>
      obtain ⟨h1, h2, h3, h4⟩ := k
      refine ⟨h1, by rw [hc p (by omega) (by omega)]; exact h2, by rw [hc _ (by omega) (by omega)]; exact h3, fun i hi => ?_⟩
      obtain ⟨q, e, k⟩ := h4 i hi
      exact ⟨q, by rw [hc _ (by omega) (by omega)]; exact e, rmI_monoR hc k⟩
  | branch k0 x r i1 i2 =>
    refine ⟨fun p j k => ?_, fun p i hp k => ?_⟩
    · obtain ⟨h1, h2, h3, h4⟩ := k
      exact ⟨h1, by rw [hc p (by omega) (by omega)]; exact h2, by rw [hc _ (by omega) (by omega)]; exact h3, i1.2 p 0 (by omega) h4⟩
    · have hl : (zl (.branch k0 x r)).length = (zl r).length + 1 := rfl
      rw [hl] at hp
      refine ⟨?_, i2.2 p (i + 1) (by omega) k.2⟩
      rcases k.1 with ⟨a1, a2, a3⟩ | ⟨a1, a2, q, a3, a4⟩
      · exact Or.inl ⟨a1, by rw [hc _ (by omega) (by omega)]; exact a2, by rw [hc _ (by omega) (by omega)]; exact a3⟩
      · exact Or.inr ⟨a1, by rw [hc _ (by omega) (by omega)]; exact a2, q, by rw [hc _ (by omega) (by omega)]; exact a3, i1.1 q 0 a4⟩
/-- the parts of the q-th, up to the i-th, are told -/
def LyP (hm : Nat → Int32) (Ts : List Th) (q : Nat) (x : Th) (i : Nat) : Prop := ∀ i', i' < i → ¬ zk (zel x i') = 0 → ∃ m, q < m ∧ m < Ts.length ∧ Ts.getD m (zI 0) = zel x i' ∧ hm (zD Ts q + zpt x i') = nI (zD Ts m) - nI (zD Ts q)
def LyH (hm : Nat → Int32) (Ts : List Th) (q : Nat) (x : Th) : Prop := hm (zD Ts q) = nI (zk x) ∧ hm (zD Ts q + 1) = nI (zn x) ∧ (zk x = 1 → ∀ i, i < zn x → hm (zD Ts q + 2 + i) = zv (zel x i)) ∧ (zk x = 3 → ∀ i, i < zn x → hm (zD Ts q + 2 + 2 * i) = (if zk (zel x i) = 0 then 0 else 1) ∧ (zk (zel x i) = 0 → hm (zD Ts q + 3 + 2 * i) = zv (zel x i)))
def LyD (hm : Nat → Int32) (Ts : List Th) (q : Nat) : Prop := LyH hm Ts q (Ts.getD q (zI 0)) ∧ LyP hm Ts q (Ts.getD q (zI 0)) (zn (Ts.getD q (zI 0)))
theorem zpt_lt {x : Th} {i : Nat} (hk : ¬ zk x = 0) (h1 : ¬ zk x = 1) (hi : i < zn x) : 2 ≤ zpt x i ∧ zpt x i < znb x := by
  unfold zpt znb
  rcases zk_c x with e | e | e | e
  · exact absurd e hk
  · exact absurd e h1
  · rw [e, if_pos rfl, if_neg (by decide)]; omega
  · rw [e, if_neg (by decide), if_pos rfl]; omega
theorem zel_int {x : Th} {i : Nat} (h1 : zk x = 1) : zk (zel x i) = 0 := by
  rw [zk1 h1, zel_R]; rfl
theorem LyP.app {hm hm' : Nat → Int32} {Ts : List Th} {R : List Th} {q i : Nat} {x : Th} (hk : ¬ zk x = 0) (hq : q < Ts.length) (hx : Ts.getD q (zI 0) = x) (hi : i ≤ zn x) (hag : ∀ i, i < zD Ts (q + 1) → hm' i = hm i) (h : LyP hm Ts q x i) : LyP hm' (Ts ++ R) q x i := by
  intro i' hi' hz
  obtain ⟨m, m1, m2, m3, m4⟩ := h i' hi' hz
  have h1 : ¬ zk x = 1 := fun c => hz (zel_int c)
  have hp := zpt_lt hk h1 (show i' < zn x by omega)
  refine ⟨m, m1, by rw [List.length_append]; omega, by rw [getD_app1 _ _ m2]; exact m3, ?_⟩
  rw [zD_app R (Nat.le_of_lt hq), zD_app R (Nat.le_of_lt m2), hag _ (by rw [zD_succ hq, hx]; omega)]
  exact m4
theorem LyH.app {hm hm' : Nat → Int32} {Ts : List Th} {R : List Th} {q : Nat} {x : Th} (hk : ¬ zk x = 0) (hq : q < Ts.length) (hx : Ts.getD q (zI 0) = x) (hag : ∀ i, i < zD Ts (q + 1) → hm' i = hm i) (h : LyH hm Ts q x) : LyH hm' (Ts ++ R) q x := by
  obtain ⟨h1, h2, h3, h4⟩ := h
  have e := zD_succ hq
  rw [hx] at e
  have hn : 2 + zn x ≤ znb x := by unfold znb; split <;> omega
  unfold LyH
  rw [zD_app R (Nat.le_of_lt hq)]
  refine ⟨by rw [hag _ (by omega)]; exact h1, by rw [hag _ (by omega)]; exact h2, fun c i hi => by rw [hag _ (by omega)]; exact h3 c i hi, fun c i hi => ?_⟩
  have hn3 : znb x = 2 + 2 * zn x := by unfold znb; rw [if_pos c]
  rw [hag _ (by omega), hag _ (by omega)]
  exact h4 c i hi
theorem LyD.app {hm hm' : Nat → Int32} {Ts : List Th} {R : List Th} {q : Nat} (hk : ¬ zk (Ts.getD q (zI 0)) = 0) (hq : q < Ts.length) (hag : ∀ i, i < zD Ts (q + 1) → hm' i = hm i) (h : LyD hm Ts q) : LyD hm' (Ts ++ R) q := by
  unfold LyD
  rw [getD_app1 R (zI 0) hq]
  exact ⟨LyH.app hk hq rfl hag h.1, LyP.app hk hq rfl (Nat.le_refl _) hag h.2⟩
theorem lay_rep {hm : Nat → Int32} {Ts : List Th} {B : Nat} (hT : ∀ t ∈ Ts, ZW t ∧ ¬ zk t = 0) (hD : ∀ k, k < Ts.length → LyD hm Ts k) (hB : (Ts.map znb).sum ≤ B) (hB2 : B ≤ 19280) : ∀ n k, Ts.length ≤ k + n → k < Ts.length → rmT hm B true (Ts.getD k (zI 0)) (zD Ts k) 0 := by
  intro n
  induction n with
  | zero => intro k h1 h2; omega
  | succ n ih =>
    intro k h1 h2
    obtain ⟨⟨d1, d2, d3, d4⟩, d5⟩ := hD k h2
    have hsz := zD_succ h2
    have hle : zD Ts (k + 1) ≤ (Ts.map znb).sum := by rw [← zD_all]; exact zD_mono (by omega)
    obtain ⟨wx, kx⟩ := hT _ (getD_mem (zI 0) h2)
    have hch : ∀ m, k < m → m < Ts.length → rmT hm B true (Ts.getD m (zI 0)) (zD Ts m) 0 := fun m m1 m2 => ih m (by omega) m2
    generalize hx : Ts.getD k (zI 0) = x at d1 d2 d3 d4 d5 hsz wx kx
    rcases zcases wx with ⟨v, rfl⟩ | ⟨a, rfl, w1⟩ | ⟨a, rfl, w1, w2, w3⟩ | ⟨l, rfl, w1, w2, w3, w4⟩
    · exact absurd rfl kx
    · have en : znb (zR a) = 2 + a.length := rfl
      refine ⟨by omega, d1, d2, fun i hi => ?_⟩
      have := d3 rfl i hi
      rw [zel_R] at this
      exact this
    · have en : znb (zT a) = 2 + a.length := rfl
      refine ⟨by omega, d1, d2, fun i hi => ?_⟩
      obtain ⟨m, m1, m2, m3, m4⟩ := d5 i hi (by rw [zel_T a hi]; show ¬ 1 = 0; decide)
      have hr := hch m m1 m2
      rw [m3, zel_T a hi] at hr
      refine ⟨zD Ts m, ?_, hr⟩
      have e : zpt (zT a) i = 2 + i := rfl
      rw [e, ← Nat.add_assoc] at m4
      exact m4
    · have en := znb_P l
      have ezn : zn (zP l) = l.length := by show (zl (zsp l)).length = _; rw [zl_zsp]
      rw [ezn] at d2 d4 d5
      refine ⟨by rw [zl_zsp]; omega, d1, by rw [zl_zsp]; exact d2, (rmT_spine _ _ 0).mpr ?_⟩
      rw [zl_zsp]
      intro j hj
      obtain ⟨f1, f2⟩ := d4 rfl j hj
      have ez : zel (zP l) j = l.getD j (zI 0) := zel_P l j
      rw [Nat.zero_add]
      rw [ez] at f1 f2
      by_cases c : zk (l.getD j (zI 0)) = 0
      · rw [if_pos c] at f1
        exact Or.inl ⟨c, f1, f2 c⟩
      · rw [if_neg c] at f1
        obtain ⟨m, m1, m2, m3, m4⟩ := d5 j hj (by rw [ez]; exact c)
        have hr := hch m m1 m2
        rw [m3, ez] at hr
        refine Or.inr ⟨c, f1, zD Ts m, ?_, hr⟩
        have e : zpt (zP l) j = 3 + 2 * j := rfl
        rw [e, ← Nat.add_assoc] at m4
        exact m4
