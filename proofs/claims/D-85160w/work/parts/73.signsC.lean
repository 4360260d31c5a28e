/-! THE COMPONENT: signs -/
theorem zr2_eqC {s v w : Int32} {p q : Option (List Int32)} {n : Nat} (hp : ∀ l, p = some l → l.length = n) (hq : ∀ l, q = some l → l.length = n) (hne : p ≠ none ∨ q ≠ none) : zr2 s v w p q = if zdv s = true ∧ 0 ∈ q.getD (List.replicate n w) then none else some (List.zipWith (zact s) (p.getD (List.replicate n v)) (q.getD (List.replicate n w))) := by
  cases p with
  | some a =>
    have := hp a rfl
    unfold zr2
    dsimp only
    rw [this]
  | none =>
    cases q with
    | none => rcases hne with h | h <;> exact absurd rfl h
    | some b =>
      have := hq b rfl
      unfold zr2
      dsimp only [Option.getD_some]
      rw [this]
theorem optlen {p : Option (List Int32)} {n : Nat} {v : Int32} (hp : ∀ l, p = some l → l.length = n) : (p.getD (List.replicate n v)).length = n := by
  cases p with
  | some a => exact hp a rfl
  | none => exact List.length_replicate
def rcO (f : RH) (z b : Nat) (v : Value) : Option (List Int32) → Prop
  | none => v = .null
  | some l => rcI f.2.2.1 z b v l
theorem rcO.gw {f0 f : RH} {c z b : Nat} {v : Value} {p : Option (List Int32)} (h : Gw f0 f c) (hb : b ≤ f0.1) (k : rcO f0 z b v p) : rcO f z b v p := by
  cases p with
  | none => exact k
  | some l => exact h.rI hb k
theorem rcO.isR {f : RH} {z b : Nat} {v : Value} {p : Option (List Int32)} (h : rcO f z b v p) : isR v = true := by
  cases p with
  | none =>
    have h : v = .null := h
    rw [h]; rfl
  | some l =>
    obtain ⟨a, g, h1, _⟩ := h
    rw [h1]; rfl
theorem rep_getD (n i : Nat) (v : Int32) (h : i < n) : (List.replicate n v).getD i 0 = v := by rw [getD_lt _ (by rw [List.length_replicate]; exact h), List.getElem_replicate]
section CS0
variable {l : Launch} {E : EN} {w : CO} {d : Nat} {s : CS} {f : RH} {Q : KO → CS → RH → Prop}
theorem C_of (hst : l.stackTraces = false) {g a b : Int32} (hs : g ∈ zSg) (h1 : ¬ (zdv g = true ∧ b = 0) → Q (.inl (some (.int (zact g a b)))) s f) (h2 : zdv g = true ∧ b = 0 → rmF E f 3 222 ∧ Q (.inr 36) s (fexc f)) : EvC l E w d MX5_of [.int g, .int a, .int b] s f Q := by
  refine eX5_of hst ?_
  have hnot : zdv g = false → Q (.inl (some (.int (zact g a b)))) s f := fun h => h1 (fun z => by rw [h] at z; exact absurd z.1 (by decide))
  have hs : g = 43 ∨ g = 45 ∨ g = 42 ∨ g = 47 ∨ g = 37 ∨ g = 38 ∨ g = 124 ∨ g = 60 ∨ g = 62 ∨ g = 317 ∨ g = 289 ∨ g = 316 ∨ g = 318 := by
    simp only [zSg, List.mem_cons, List.not_mem_nil, or_false] at hs
    exact hs
  have n1 : ∀ {x y : Int32} {A B : Prop}, ¬ x = y → B → ((x = y → A) ∧ (¬ x = y → B)) := fun h b => ⟨fun c => absurd c h, fun _ => b⟩
  have y1 : ∀ {x y : Int32} {A B : Prop}, x = y → A → ((x = y → A) ∧ (¬ x = y → B)) := fun h a => ⟨fun _ => a, fun c => absurd h c⟩
  rcases hs with rfl | rfl | rfl | rfl | rfl | rfl | rfl | rfl | rfl | rfl | rfl | rfl | rfl
  · exact n1 (by decide) (n1 (by decide) (n1 (by decide) (y1 rfl (hnot rfl))))
  · exact n1 (by decide) (n1 (by decide) (n1 (by decide) (n1 (by decide) (y1 rfl (hnot rfl)))))
  · exact n1 (by decide) (n1 (by decide) (y1 rfl (hnot rfl)))
  · exact n1 (by decide) (n1 (by decide) (n1 (by decide) (n1 (by decide) (n1 (by decide) (y1 rfl ⟨fun c => h1 (fun z => c z.2), fun c => ⟨(h2 ⟨rfl, c⟩).1, fun _ f1 e => by rw [e]; exact (h2 ⟨rfl, c⟩).2⟩⟩)))))
  · exact y1 rfl ⟨fun c => h1 (fun z => c z.2), fun c => ⟨(h2 ⟨rfl, c⟩).1, fun _ f1 e => by rw [e]; exact (h2 ⟨rfl, c⟩).2⟩⟩
  · exact n1 (by decide) (y1 rfl (hnot rfl))
  · exact n1 (by decide) (n1 (by decide) (n1 (by decide) (n1 (by decide) (n1 (by decide) (n1 (by decide) (n1 (by decide) (n1 (by decide) (y1 rfl (hnot rfl)))))))))
  · have := hnot rfl
    refine n1 (by decide) (n1 (by decide) (n1 (by decide) (n1 (by decide) (n1 (by decide) (n1 (by decide) (y1 rfl ⟨fun c => ?_, fun c => ?_⟩))))))
    · have e : zact 60 a b = 0 := if_neg (Int32.not_lt.mpr c)
      rw [e] at this; exact this
    · have e : zact 60 a b = 1 := if_pos (Int32.not_le.mp c)
      rw [e] at this; exact this
  · have := hnot rfl
    refine n1 (by decide) (n1 (by decide) (n1 (by decide) (n1 (by decide) (n1 (by decide) (n1 (by decide) (n1 (by decide) (y1 rfl ⟨fun c => ?_, fun c => ?_⟩)))))))
    · have e : zact 62 a b = 0 := if_neg (Int32.not_lt.mpr c)
      rw [e] at this; exact this
    · have e : zact 62 a b = 1 := if_pos (Int32.not_le.mp c)
      rw [e] at this; exact this
  · have := hnot rfl
    refine n1 (by decide) (n1 (by decide) (n1 (by decide) (n1 (by decide) (n1 (by decide) (n1 (by decide) (n1 (by decide) (n1 (by decide) (n1 (by decide) (n1 (by decide) (n1 (by decide) (y1 rfl ⟨fun c => ?_, fun c => ?_⟩)))))))))))
    · have e : zact 317 a b = 0 := if_neg c
      rw [e] at this; exact this
    · have e : zact 317 a b = 1 := if_pos c
      rw [e] at this; exact this
  · have := hnot rfl
    refine n1 (by decide) (n1 (by decide) (n1 (by decide) (n1 (by decide) (n1 (by decide) (n1 (by decide) (n1 (by decide) (n1 (by decide) (n1 (by decide) (y1 rfl ⟨fun c => ?_, fun c => ?_⟩)))))))))
    · have e : zact 289 a b = 0 := if_pos c
      rw [e] at this; exact this
    · have e : zact 289 a b = 1 := if_neg c
      rw [e] at this; exact this
  · have := hnot rfl
    refine n1 (by decide) (n1 (by decide) (n1 (by decide) (n1 (by decide) (n1 (by decide) (n1 (by decide) (n1 (by decide) (n1 (by decide) (n1 (by decide) (n1 (by decide) (y1 rfl ⟨fun c => ?_, fun c => ?_⟩))))))))))
    · have e : zact 316 a b = 0 := if_neg (Int32.not_le.mpr c)
      rw [e] at this; exact this
    · have e : zact 316 a b = 1 := if_pos (Int32.not_lt.mp c)
      rw [e] at this; exact this
  · have := hnot rfl
    refine n1 (by decide) (n1 (by decide) (n1 (by decide) (n1 (by decide) (n1 (by decide) (n1 (by decide) (n1 (by decide) (n1 (by decide) (n1 (by decide) (n1 (by decide) (n1 (by decide) (n1 (by decide) ⟨fun c => ?_, fun c => ?_⟩)))))))))))
    · have e : zact 318 a b = 0 := if_neg (Int32.not_le.mpr c)
      rw [e] at this; exact this
    · have e : zact 318 a b = 1 := if_pos (Int32.not_lt.mp c)
      rw [e] at this; exact this
theorem C_rows (hst : l.stackTraces = false) {g v u : Int32} (hs : g ∈ zSg) {p q : Option (List Int32)} {n : Nat} {x2 x4 : Value} (hp : rcO f (ez E) f.1 x2 p) (hq : rcO f (ez E) f.1 x4 q) (hpn : ∀ l, p = some l → l.length = n) (hqn : ∀ l, q = some l → l.length = n) (hne : p ≠ none ∨ q ≠ none) (hn : n ≤ 64) (hroom : f.2.1 + 400 ≤ BM) (hz : f.2.2.2 ≤ f.1)
    (h1 : ∀ L, zr2 g v u p q = some L → L.length = n → Q (.inl (some (.ref f.1))) s (fA f n L)) (h2 : zr2 g v u p q = none → ∀ f', Gw f f' (n + 226) → Q (.inr 36) s f') : EvC l E w (d + 1) MX5_rows [.int g, x2, .int v, x4, .int u] s f Q := by
  rw [zr2_eqC hpn hqn hne] at h1 h2
  have hA := optlen (v := v) hpn
  have hB := optlen (v := u) hqn
  generalize hAe : p.getD (List.replicate n v) = A at hA h1 h2
  generalize hBe : q.getD (List.replicate n u) = B at hB h1 h2
  have hzl : (List.zipWith (zact g) A B).length = n := by rw [List.length_zipWith, hA, hB, Nat.min_self]
  have main : ∀ m k, k + m = n → (zdv g = true → ¬ (0 : Int32) ∈ B.take k) → ExC l E w (d + 1) MX5_rows 22 [some (.int g), some x2, some (.int v), some x4, some (.int u), some (.int (nI n)), some (.ref f.1), some (.int (nI k))] [] s (fA f n ((List.zipWith (zact g) A B).take k)) Q := by
    intro m
    induction m with
    | zero =>
      intro k hk h0
      have hk : k = n := hk
      subst hk
      refine vX5_rows_22 hp.isR hq.isR (pk_le k k (fun _ => ?_) (fun c => by omega) rfl rfl)
      rw [List.take_of_length_le (by omega)] at h0
      rw [List.take_of_length_le (by omega)]
      refine h1 _ (if_neg (fun z => h0 z.1 z.2)) hzl
    | succ m ih =>
      intro k hk h0
      have hgw := fA_gw f n ((List.zipWith (zact g) A B).take k)
      have hp' := hp.gw hgw (Nat.le_refl _)
      have hq' := hq.gw hgw (Nat.le_refl _)
      generalize hL : (List.zipWith (zact g) A B).take k = L at *
      have hLl : L.length = k := by rw [← hL, List.length_take]; omega
      have hBk : B.take (k + 1) = B.take k ++ [B.getD k 0] := take_succ_getD B 0 k (by omega)
      have hLk : (List.zipWith (zact g) A B).take (k + 1) = L ++ [zact g (A.getD k 0) (B.getD k 0)] := by
        rw [take_succ_getD _ 0 k (by omega), hL]
        congr 2
        rw [getD_lt _ (by omega), List.getElem_zipWith, getD_lt _ (by omega), getD_lt _ (by omega)]
      have nxt : EvC l E w d MX5_of [.int g, .int (A.getD k 0), .int (B.getD k 0)] s (fA f n L) (fun o s13 f14 => KP o (fun r => ∃ v15 : Int32, r = some (.int v15) ∧ (tg f14 f.1 = some (.inr 0) ∧ inB (nI k) (ln f14 f.1) ∧ f14.2.2.2 ≤ f.1 ∧ ∀ f16 : RH, f16 = fset f14 f.1 (nI k).toNatClampNeg (.int v15) → ExC l E w (d + 1) MX5_rows 22 [some (.int g), some x2, some (.int v), some x4, some (.int u), some (.int (nI n)), some (.ref f.1), some (.int (nI k + 1))] [] s13 f16 Q)) (fun k => Q (.inr k) s13 f14)) := by
        refine C_of hst hs (fun c => ⟨_, rfl, (fA_tg f n L).1, ?_, hz, fun f16 e => ?_⟩) (fun c => ⟨?_, h2 (if_pos ⟨c.1, ?_⟩) _ ((hgw.trans (Gw.exc _)).le (by omega))⟩)
        · rw [(fA_tg f n L).2.1]; exact inB_n (by omega)
        · rw [nI_clamp (by omega)] at e
          rw [e, nI_1]
          have := fA_snoc f n L (zact g (A.getD k 0) (B.getD k 0))
          rw [hLl] at this
          rw [this, ← hLk]
          refine ih (k + 1) (by omega) (fun hd hm => ?_)
          rw [hBk] at hm
          rcases List.mem_append.mp hm with hm | hm
          · exact h0 hd hm
          · rcases List.mem_cons.mp hm with hm | hm
            · exact c ⟨hd, hm.symm⟩
            · cases hm
        · have := hgw.2.2.1
          show (fA f n L).2.1 + 3 + 222 ≤ BM
          omega
        · rw [← c.2, getD_lt _ (by omega)]
          exact List.getElem_mem _
      refine vX5_rows_22 hp.isR hq.isR (pk_le n k (fun c => by omega) (fun _ => ⟨fun e1 => ⟨fun e3 => ?_, fun a12 e3 => ?_⟩, fun a11 e1 => ?_⟩) rfl rfl)
      · cases p with
        | some lp => obtain ⟨a, _, h, _⟩ := hp; rw [e1] at h; cases h
        | none =>
          cases q with
          | some lq => obtain ⟨a, _, h, _⟩ := hq; rw [e3] at h; cases h
          | none => rcases hne with h | h <;> exact absurd rfl h
      · cases p with
        | some lp => obtain ⟨a, _, h, _⟩ := hp; rw [e1] at h; cases h
        | none =>
          cases q with
          | none =>
            have hq : x4 = .null := hq
            rw [e3] at hq; cases hq
          | some lq =>
            have hAk : A.getD k 0 = v := by rw [← hAe]; exact rep_getD n k v (by omega)
            have hBq : B = lq := hBe.symm
            obtain ⟨a, h1', h2', h3', h4', h5'⟩ := rcI.vw hq'
            rw [e3] at h1'
            cases h1'
            refine ⟨h3', by rw [h4', hqn lq rfl]; exact inB_n (by omega), B.getD k 0, ?_, ?_⟩
            · rw [nI_clamp (by omega), hBq]
              exact h5' k (by rw [hqn lq rfl]; omega)
            · rw [← hAk]
              rw [e1, e3] at nxt
              rw [hAk] at nxt ⊢
              exact nxt
      · cases p with
        | none =>
          have hp : x2 = .null := hp
          rw [e1] at hp; cases hp
        | some lp =>
          have hAp : A = lp := hAe.symm
          obtain ⟨a, h1', h2', h3', h4', h5'⟩ := rcI.vw hp'
          rw [e1] at h1'
          cases h1'
          refine ⟨h3', by rw [h4', hpn lp rfl]; exact inB_n (by omega), A.getD k 0, ?_, fun e3 => ?_, fun a23 e3 => ?_⟩
          · rw [nI_clamp (by omega), hAp]
            exact h5' k (by rw [hpn lp rfl]; omega)
          · cases q with
            | some lq => obtain ⟨a, _, h, _⟩ := hq; rw [e3] at h; cases h
            | none =>
              have hBk : B.getD k 0 = u := by rw [← hBe]; exact rep_getD n k u (by omega)
              rw [e1, e3, hBk] at nxt
              exact nxt
          · cases q with
            | none =>
              have hq : x4 = .null := hq
              rw [e3] at hq; cases hq
            | some lq =>
              have hBq : B = lq := hBe.symm
              obtain ⟨a', g1', g2', g3', g4', g5'⟩ := rcI.vw hq'
              rw [e3] at g1'
              cases g1'
              refine ⟨g3', by rw [g4', hqn lq rfl]; exact inB_n (by omega), B.getD k 0, ?_, ?_⟩
              · rw [nI_clamp (by omega), hBq]
                exact g5' k (by rw [hqn lq rfl]; omega)
              · rw [e1, e3] at nxt
                exact nxt
  have hmain := main n 0 (by omega) (fun _ z => by rw [List.take_zero] at z; cases z)
  rw [List.take_zero, ← fnewA0] at hmain
  refine eX5_rows hp.isR hq.isR hst ⟨fun e1 => ?_, fun a1 e1 => ?_⟩
  · cases p with
    | some lp => obtain ⟨a, _, h, _⟩ := hp; rw [e1] at h; cases h
    | none =>
      cases q with
      | none => rcases hne with h | h <;> exact absurd rfl h
      | some lq =>
        obtain ⟨a, g1, g2, g3, g4, g5⟩ := rcI.vw hq
        refine ⟨a, g1, 0, g3, fun y ey => ?_⟩
        rw [g4, hqn lq rfl] at ey
        subst ey
        rw [nI_clamp (by omega)]
        refine ⟨i32_nn n (by omega), by omega, (by show f.2.1 + 1 + n ≤ BM; omega), fun a5 f6 e5 e6 => ?_⟩
        subst e5 e6
        rw [e1, g1] at hmain
        exact hmain
  · cases p with
    | none =>
      have hp : x2 = .null := hp
      rw [e1] at hp; cases hp
    | some lp =>
      obtain ⟨a, g1, g2, g3, g4, g5⟩ := rcI.vw hp
      rw [e1] at g1
      cases g1
      refine ⟨0, g3, fun y ey => ?_⟩
      rw [g4, hpn lp rfl] at ey
      subst ey
      rw [nI_clamp (by omega)]
      refine ⟨i32_nn n (by omega), by omega, (by show f.2.1 + 1 + n ≤ BM; omega), fun a5 f6 e5 e6 => ?_⟩
      subst e5 e6
      rw [e1] at hmain
      exact hmain
end CS0
