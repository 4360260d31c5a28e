/-! NODES: one more -/
section ND2
variable {l : Launch} {E : EN} {w : CO} {d : Nat} {s : CS} {f : RH} {Q : KO → CS → RH → Prop} {lo q a1 a2 a3 cap m x : Nat} {V : Nat → Nat} {S L : Nat → Int32}
theorem add_fin {sg pl : Int32} {g : RH} (h : NsB g lo q a1 a2 a3 cap m V S L) (hm : m < cap) (hx : nd g x) (hm2 : m < 2 ^ 30) (hc : cap < 2 ^ 30) (hQ : ∀ f', NsB f' lo q a1 a2 a3 cap (m + 1) (up V m x) (up S m sg) (up L m pl) → gE [q, a1, a2, a3] g f' → f'.1 = g.1 → f'.2.1 = g.2.1 → Q (.inl none) s f') : (oc g q 17 ∧ (∃ a4 : Nat, vl g q 168 = .ref a4 ∧ (oc g q 17 ∧ (∃ v5 : Int32, vl g q 171 = .int v5 ∧ (∃ k15 : Nat, (tg g a4 = some (.inr 5) ∧ tg g x = some (.inl k15) ∧ k15 ∈ CKs 5 ∧ inB v5 (ln g a4) ∧ g.2.2.2 ≤ a4 ∧ ∀ f6 : RH, f6 = fset g a4 v5.toNatClampNeg (.ref x) → (oc f6 q 17 ∧ (∃ a7 : Nat, vl f6 q 169 = .ref a7 ∧ (oc f6 q 17 ∧ (∃ v8 : Int32, vl f6 q 171 = .int v8 ∧ (tg f6 a7 = some (.inr 0) ∧ inB v8 (ln f6 a7) ∧ f6.2.2.2 ≤ a7 ∧ ∀ f9 : RH, f9 = fset f6 a7 v8.toNatClampNeg (.int sg) → (oc f9 q 17 ∧ (∃ a10 : Nat, vl f9 q 170 = .ref a10 ∧ (oc f9 q 17 ∧ (∃ v11 : Int32, vl f9 q 171 = .int v11 ∧ (tg f9 a10 = some (.inr 0) ∧ inB v11 (ln f9 a10) ∧ f9.2.2.2 ≤ a10 ∧ ∀ f12 : RH, f12 = fset f9 a10 v11.toNatClampNeg (.int pl) → (oc f12 q 17 ∧ (∃ v13 : Int32, vl f12 q 171 = .int v13 ∧ (oc f12 q 17 ∧ f12.2.2.2 ≤ q ∧ ∀ f14 : RH, f14 = fset f12 q 171 (.int (v13 + 1)) → Q (.inl none) s f14))))))))))))))))))) := by
  obtain ⟨-, kk, tk1, tk2⟩ := id hx
  have ib : inB (nI m) cap := inB_n hm
  have cl : (nI m).toNatClampNeg = m := nI_clamp (by omega)
  have hput := fun f1 f2 f3 f4 e1 e2 e3 e4 => h.put (sg := sg) (pl := pl) hm hx hm2 f1 f2 f3 f4 e1 e2 e3 e4
  refine ⟨h.1.1, a1, h.2.1.1, h.1.1, _, h.1.2.2.2.2.1, kk, h.2.1.2.2.2.2.1, tk1, tk2, by rw [h.2.1.2.2.2.2.2]; exact ib, h.2.1.2.2.1, fun f1 e1 => ?_⟩
  rw [cl] at e1
  have s1 := (hput f1 _ _ _ e1 rfl rfl rfl).2.2.2.2.1
  refine ⟨s1.1.1, a2, s1.2.2.1.1, s1.1.1, _, s1.1.2.2.2.2.1, s1.2.2.1.2.2.2.2.1, by rw [s1.2.2.1.2.2.2.2.2]; exact ib, s1.2.2.1.2.2.1, fun f2 e2 => ?_⟩
  rw [cl] at e2
  have s2 := (hput f1 f2 _ _ e1 e2 rfl rfl).2.2.2.2.2.1
  refine ⟨s2.1.1, a3, s2.2.2.2.1.1, s2.1.1, _, s2.1.2.2.2.2.1, s2.2.2.2.1.2.2.2.2.1, by rw [s2.2.2.2.1.2.2.2.2.2]; exact ib, s2.2.2.2.1.2.2.1, fun f3 e3 => ?_⟩
  rw [cl] at e3
  have s3 := (hput f1 f2 f3 _ e1 e2 e3 rfl).2.2.2.2.2.2
  refine ⟨s3.1.1, _, s3.1.2.2.2.2.1, s3.1.1, s3.1.2.2.1, fun f4 e4 => ?_⟩
  rw [← nI_succ] at e4
  obtain ⟨p1, p2, p3, p4, -⟩ := hput f1 f2 f3 f4 e1 e2 e3 e4
  exact hQ f4 p1 p2 p3 p4
theorem C_add (hst : l.stackTraces = false) {sg pl : Int32} (h : NsB f lo q a1 a2 a3 cap m V S L) (hx : nd f x) (hm : m ≤ 690) (hc : cap ≤ 4000) (hroom : f.2.1 + 12 * m + 3 ≤ BM) (hQ : ∀ f' b1 b2 b3 cap', NsB f' lo q b1 b2 b3 cap' (m + 1) (up V m x) (up S m sg) (up L m pl) → gE [q, a1, a2, a3] f f' → (b1 = a1 ∨ f.1 ≤ b1) → (b2 = a2 ∨ f.1 ≤ b2) → (b3 = a3 ∨ f.1 ≤ b3) → cap ≤ cap' → f'.2.1 ≤ f.2.1 + 5 * (cap' - cap) → Q (.inl none) s f') : EvC l E w (d + 1) MX19_add [.ref q, .ref x, .int sg, .int pl] s f Q := by
  have hmc := h.1.2.2.2.2.2
  refine eX19_add hst ⟨h.1.1, _, h.1.2.2.2.2.1, h.1.1, a1, h.2.1.1, 5, h.2.1.2.2.2.2.1, ?_⟩
  rw [h.2.1.2.2.2.2.2]
  refine bn_eq m cap (fun z => ?_) (fun z => ⟨h.1.1, ?_⟩) rfl rfl
  · exact add_fin h (by omega) hx (by omega) (by omega) (fun f' p1 p2 p3 p4 => hQ f' a1 a2 a3 cap p1 p2 (Or.inl rfl) (Or.inl rfl) (Or.inl rfl) (Nat.le_refl _) (by omega))
  · refine C_grow hst h z (by omega) hroom (fun f1 b1 b2 b3 hN hg g1 g2 g3 hb => ⟨rfl, ?_⟩)
    have hx1 : nd f1 x := hx.keep hg
    have hq := h.1.2.1
    refine add_fin hN (by omega) hx1 (by omega) (by omega) (fun f' p1 p2 p3 p4 => hQ f' b1 b2 b3 (4 * m) p1 ((hg.mono (fun a ha => Or.inl (by rw [List.mem_singleton.mp ha]; exact List.mem_cons_self ..))).trans p2 (fun a ha => ?_)) (Or.inr g1) (Or.inr g2) (Or.inr g3) (by omega) (by omega))
    simp only [List.mem_cons, List.not_mem_nil, or_false] at ha ⊢
    omega
/-- new Nodes -/
theorem C_nsInit (hst : l.stackTraces = false) (hq : oc f q 17) (hq2 : q < f.1) (hfz : f.2.2.2 ≤ q) (hq171 : vl f q 171 = .int 0) (hlo : lo ≤ q) (hroom : f.2.1 + 9 ≤ BM) (hQ : ∀ f', NsB f' lo q f.1 (f.1 + 1) (f.1 + 2) 2 0 (fun _ => 0) (fun _ => 0) (fun _ => 0) → gE [q] f f' → f'.2.1 = f.2.1 + 9 → f'.1 = f.1 + 3 → Q (.inl none) s f') : EvC l E w d MX19_init [.ref q] s f Q := by
  have c2 : (2 : Int32).toNatClampNeg = 2 := by decide
  refine eX19_init hst ?_
  rw [c2]
  refine ⟨by decide, by unfold rmF; omega, fun b1 f1 eb1 ef1 => ?_⟩
  have g1 : gE [] f f1 := by rw [ef1]; exact gE.newA _ _ _
  have k1 : f1.2.2.1 q = f.2.2.1 q := g1.ce hq2 List.not_mem_nil
  have z1 : f1.1 = f.1 + 1 ∧ f1.2.1 = f.2.1 + 3 ∧ f1.2.2.2 = f.2.2.2 := by rw [ef1]; exact ⟨rfl, rfl, rfl⟩
  refine ⟨ocE k1 hq, by omega, fun f2 ef2 => ⟨by decide, by unfold rmF; rw [ef2]; show f1.2.1 + 1 + 2 ≤ BM; omega, fun b2 f3 eb2 ef3 => ?_⟩⟩
  have z2 : f2.1 = f1.1 ∧ f2.2.1 = f1.2.1 ∧ f2.2.2.2 = f1.2.2.2 := by rw [ef2]; exact ⟨rfl, rfl, rfl⟩
  have g3 : gE [] f2 f3 := by rw [ef3]; exact gE.newA _ _ _
  have z3 : f3.1 = f2.1 + 1 ∧ f3.2.1 = f2.2.1 + 3 ∧ f3.2.2.2 = f2.2.2.2 := by rw [ef3]; exact ⟨rfl, rfl, rfl⟩
  have o2 : oc f2 q 17 := by rw [ef2]; exact set_oc (ocE k1 hq)
  have k3 : f3.2.2.1 q = f2.2.2.1 q := g3.ce (by omega) List.not_mem_nil
  refine ⟨ocE k3 o2, by omega, fun f4 ef4 => ⟨by decide, by unfold rmF; rw [ef4]; show f3.2.1 + 1 + 2 ≤ BM; omega, fun b3 f5 eb3 ef5 => ?_⟩⟩
  have z4 : f4.1 = f3.1 ∧ f4.2.1 = f3.2.1 ∧ f4.2.2.2 = f3.2.2.2 := by rw [ef4]; exact ⟨rfl, rfl, rfl⟩
  have g5 : gE [] f4 f5 := by rw [ef5]; exact gE.newA _ _ _
  have z5 : f5.1 = f4.1 + 1 ∧ f5.2.1 = f4.2.1 + 3 ∧ f5.2.2.2 = f4.2.2.2 := by rw [ef5]; exact ⟨rfl, rfl, rfl⟩
  have o4 : oc f4 q 17 := by rw [ef4]; exact set_oc (ocE k3 o2)
  have k5 : f5.2.2.1 q = f4.2.2.1 q := g5.ce (by omega) List.not_mem_nil
  refine ⟨ocE k5 o4, by omega, fun f6 ef6 => ?_⟩
  have z6 : f6.1 = f5.1 ∧ f6.2.1 = f5.2.1 ∧ f6.2.2.2 = f5.2.2.2 := by rw [ef6]; exact ⟨rfl, rfl, rfl⟩
  have o6 : oc f6 q 17 := by rw [ef6]; exact set_oc (ocE k5 o4)
  have hb : b1 = f.1 ∧ b2 = f.1 + 1 ∧ b3 = f.1 + 2 := by omega
  obtain ⟨rfl, rfl, rfl⟩ := hb
  have v5 := (cellE k5).2.2
  have v3 := (cellE k3).2.2
  have v1 := (cellE k1).2.2
  have vq : vl f6 q 168 = .ref f.1 ∧ vl f6 q 169 = .ref (f.1 + 1) ∧ vl f6 q 170 = .ref (f.1 + 2) ∧ vl f6 q 171 = .int 0 := by
    refine ⟨?_, ?_, by rw [ef6]; exact set_vl (ocE k5 o4).1, ?_⟩
    · rw [ef6, set_vn (ocE k5 o4).1 (by decide), v5, ef4, set_vn (ocE k3 o2).1 (by decide), v3, ef2]; exact set_vl (ocE k1 hq).1
    · rw [ef6, set_vn (ocE k5 o4).1 (by decide), v5, ef4]; exact set_vl (ocE k3 o2).1
    · rw [ef6, set_vn (ocE k5 o4).1 (by decide), v5, ef4, set_vn (ocE k3 o2).1 (by decide), v3, ef2, set_vn (ocE k1 hq).1 (by decide), v1]; exact hq171
  have t1 : tg f6 f.1 = some (.inr 5) ∧ ln f6 f.1 = 2 := by
    have c : f6.2.2.1 f.1 = f1.2.2.1 f.1 := by
      rw [ef6, set_cell (by omega), g5.ce (by omega) List.not_mem_nil, ef4, set_cell (by omega), g3.ce (by omega) List.not_mem_nil, ef2, set_cell (by omega)]
    rw [(cellE c).1, (cellE c).2.1, ef1]
    exact ⟨tg_push _ _ _, by unfold ln; rw [show (fnewA f 5 2).2.2.1 f.1 = _ from cell_push _ _ _]⟩
  have t2 : tg f6 (f.1 + 1) = some (.inr 0) ∧ ln f6 (f.1 + 1) = 2 := by
    have c : f6.2.2.1 (f.1 + 1) = f3.2.2.1 (f.1 + 1) := by
      rw [ef6, set_cell (by omega), g5.ce (by omega) List.not_mem_nil, ef4, set_cell (by omega)]
    rw [(cellE c).1, (cellE c).2.1, ef3, eb2]
    exact ⟨tg_push _ _ _, by unfold ln; rw [show (fnewA f2 0 2).2.2.1 f2.1 = _ from cell_push _ _ _]⟩
  have t3 : tg f6 (f.1 + 2) = some (.inr 0) ∧ ln f6 (f.1 + 2) = 2 := by
    have c : f6.2.2.1 (f.1 + 2) = f5.2.2.1 (f.1 + 2) := by rw [ef6, set_cell (by omega)]
    rw [(cellE c).1, (cellE c).2.1, ef5, eb3]
    exact ⟨tg_push _ _ _, by unfold ln; rw [show (fnewA f4 0 2).2.2.1 f4.1 = _ from cell_push _ _ _]⟩
  refine hQ f6 ⟨⟨o6, by omega, by omega, hlo, vq.2.2.2, by omega, by omega, by omega⟩, ⟨vq.1, by omega, by omega, by omega, t1⟩, ⟨vq.2.1, by omega, by omega, by omega, t2⟩, ⟨vq.2.2.1, by omega, by omega, by omega, t3⟩, by omega, fun k hk => absurd hk (Nat.not_lt_zero _)⟩ ?_ (by omega) (by omega)
  have s2 : gE [q] f1 f2 := by rw [ef2]; exact gE.set _ _ _
  have s4 : gE [q] f3 f4 := by rw [ef4]; exact gE.set _ _ _
  have s6 : gE [q] f5 f6 := by rw [ef6]; exact gE.set _ _ _
  have nn : ∀ (D : List Nat) (k : Nat) (a : Nat), a ∈ ([] : List Nat) → a ∈ D ∨ k ≤ a := fun D k a ha => absurd ha List.not_mem_nil
  have qq : ∀ (k : Nat) (a : Nat), a ∈ [q] → a ∈ [q] ∨ k ≤ a := fun k a ha => Or.inl ha
  exact (((((g1.mono (nn [q] _)).trans s2 (qq _)).trans g3 (nn _ _)).trans s4 (qq _)).trans g5 (nn _ _)).trans s6 (qq _)
end ND2
