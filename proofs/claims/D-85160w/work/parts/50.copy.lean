/-! MORE RULES: System.arraycopy, int[].clone, comparing references, i2c -/
def cpy (f g : Nat → Value) (sp dp n : Nat) : Nat → Value := fun i => if dp ≤ i ∧ i < dp + n then f (sp + (i - dp)) else g i
theorem nnI (x : Int32) (h : ¬ x < 0) : x.toInt = (x.toNatClampNeg : Int) := by
  have h1 : ¬ x.toInt < (0 : Int32).toInt := fun z => h (Int32.lt_iff_toInt_lt.mpr z)
  have h2 : (0 : Int32).toInt = 0 := by decide
  have h3 : x.toNatClampNeg = x.toInt.toNat := rfl
  omega
section CP
variable {l : Launch} {E : EN} {d : Nat} {M : MR} {pc : Nat} {lo : LO} {st : List Value} {h : CH} {Q : Outcome → CH → Prop}
theorem x_arraycopy {a b na nb t idx : Nat} {f g : Nat → Value} {sp dp n : Int32} (hd : decode (mB M) pc = .ok (.invokestatic idx, 3)) (hq : Cond.methodLink (mY M).cls idx arraycopyName ∈ lw_all) (hnat : Cond.native arraycopyName ∈ lw_all) (hst : Cond.static arraycopyName ∈ lw_all) (hin : Cond.initialized "java/lang/System" ∈ lw_all)
    (ha : h.2.2 a = some (.inr t, na, f)) (hb : h.2.2 b = some (.inr t, nb, g)) (hz : ez E ≤ b) (ht : t < 4) (h1 : ¬ sp < 0) (h2 : ¬ dp < 0) (h3 : ¬ n < 0) (h4 : sp.toNatClampNeg + n.toNatClampNeg ≤ na) (h5 : dp.toNatClampNeg + n.toNatClampNeg ≤ nb)
    (hfit : ∀ i, i < n.toNatClampNeg → fits (AT t) (f (sp.toNatClampNeg + i)) = true ∧ ∀ x, f (sp.toNatClampNeg + i) ≠ .ref x) (hw : (st.map fun v => v.category).sum ≤ 20) (hLm : lo.length = mL M)
    (kk : Ex l E d M (pc + 3) lo st (hset h b (.inr t, nb, cpy f g sp.toNatClampNeg dp.toNatClampNeg n.toNatClampNeg)) Q) : Ex l E d M pc lo (.int n :: .int dp :: .ref b :: .int sp :: .ref a :: st) h Q := by
  intro p e R s m args below meth c u C ls H locs cells slots hL hC T hT X
  have K := C.2.2.2.2.2.2.2.2.1
  have hown := C.2.2.2.2.2.1
  obtain ⟨r1, r2, -⟩ := C.2.2.2.2.2.2.2.2.2
  obtain ⟨hR, hlo, hcs, hss⟩ := hC
  obtain ⟨cs, hs1, hs2⟩ := hR.2 a _ ha
  obtain ⟨cd, hd1, hd2⟩ := hR.2 b _ hb
  obtain ⟨-, ⟨hsv, ks, hks, sc, hsk⟩, hsu, -, hsz, hsf⟩ := id hs2
  obtain ⟨htN, ⟨hdv, kd, hkd, dc, hdk⟩, hdu, hdz, hdsz, hdf⟩ := id hd2
  have hsz : cs.slots.size = na := hsz
  have hdsz : cd.slots.size = nb := hdsz
  have hpr : refKind (AT t) = false := by
    rcases (show t = 0 ∨ t = 1 ∨ t = 2 ∨ t = 3 by omega) with rfl | rfl | rfl | rfl <;> rfl
  have hget : ∀ i, i < n.toNatClampNeg → cs.slots.getD (sp.toNatClampNeg + i) .null = f (sp.toNatClampNeg + i) := fun i hi => by
    rw [Array.getD_eq_getD_getElem?, hsf _ (by show sp.toNatClampNeg + i < na; omega)]; rfl
  obtain ⟨vm', X', step⟩ := X.arraycopy C.1 hown (K.word hq) (K.word hnat) (K.word hst) (K.word hin) (src := a) (dst := b) (cs := cs) (cd := cd) (srcPos := sp) (destPos := dp) (n := n) (by rw [hT]; exact hs1) (by rw [hT]; exact hd1)
    hsv hdv hsu hdu hks hkd hsk hdk (by rw [hpr]; simp) h1 h2 h3 (by rw [nnI sp h1, nnI n h3, hsz]; omega) (by rw [nnI dp h2, nnI n h3, hdsz]; omega)
    (fun vm₁ _ i hi => by
      rw [hget i hi]
      refine ⟨(hfit i hi).1, ?_⟩
      cases e : f (sp.toNatClampNeg + i) with
      | ref x => exact absurd e ((hfit i hi).2 x)
      | _ => trivial)
    (g := F0 m pc ls (.int n :: .int dp :: .ref b :: .int sp :: .ref a :: st)) rfl (by rw [C.2.2.1, ← hLm]; exact hL.1) (rest := st) rfl (by rw [C.2.1]; exact hd) (by omega) (by show 2 * 0 + (st.map fun v => v.category).sum + (5 + 2 + 11) ≤ _; omega)
  have hl : b < H.size := (Array.getElem?_eq_some_iff.mp hd1).1
  have hheap : ((T.setVm vm').setCell b (copied cs cd sp dp n)).heap = H.setIfInBounds b (copied cs cd sp dp n) := by rw [← hT]; rfl
  have oq : ∀ q : Nat, q ≠ b → (H.setIfInBounds b (copied cs cd sp dp n))[q]? = H[q]? := fun q hq => by simp [Array.getElem?_setIfInBounds, Ne.symm hq]
  obtain ⟨f1, f2, f3, -⟩ := Cell.storeRun_facts cd dp.toNatClampNeg (cs.stretch sp.toNatClampNeg n.toNatClampNeg)
  have hlen : (cs.stretch sp.toNatClampNeg n.toNatClampNeg).length = n.toNatClampNeg := by unfold Cell.stretch; simp
  have hCR : CR E s b (copied cs cd sp dp n) (.inr t, nb, cpy f g sp.toNatClampNeg dp.toNatClampNeg n.toNatClampNeg) := by
    refine ⟨htN, ⟨by show ∀ k, (copied cs cd sp dp n).vm ≠ _; rw [f2]; exact hdv, kd, by show s.vm.classes[(copied cs cd sp dp n).cls]? = _; rw [f1]; exact hkd, dc, hdk⟩, by rw [f2]; exact hdu, fun z => by rw [f1, f2]; exact hdz z, by show (copied cs cd sp dp n).slots.size = nb; rw [f3]; exact hdsz, fun j hj => ?_⟩
    have hj : j < nb := hj
    show (copied cs cd sp dp n).slots[j]? = some (cpy f g sp.toNatClampNeg dp.toNatClampNeg n.toNatClampNeg j)
    rw [Cell.storeRun_get cd _ _ j (by rw [hlen, hdsz]; exact h5), hlen]
    unfold cpy
    split
    · rename_i hc
      have hi : j - dp.toNatClampNeg < n.toNatClampNeg := by omega
      unfold Cell.stretch
      rw [List.getElem?_map, List.getElem?_range hi]
      exact congrArg some (hget _ hi)
    · exact hdf j hj
  obtain ⟨t1, a1, b1⟩ := kk p e R s m args below meth c u C ls (H.setIfInBounds b (copied cs cd sp dp n)) _ cells slots hL ⟨hR.set hz (by simp [Array.getElem?_setIfInBounds, hl]) (by simp) oq hCR, fun q hq => by
      rcases List.mem_append.mp hq with h | h
      · exact hlo q h
      · obtain ⟨z, -, hz'⟩ := List.mem_map.mp h
        rw [← hz']
        exact hz, hcs, hss⟩ _ hheap X'
  exact ⟨t1, step t1 a1, b1⟩
theorem x_clone {a na t idx : Nat} {f : Nat → Value} {ad : String} (hd : decode (mB M) pc = .ok (.invokevirtual idx, 3)) (hq : Cond.methodLink (mY M).cls idx ⟨ad, "clone", "()Ljava/lang/Object;"⟩ ∈ lw_all) (hsame : Cond.sameMethod ad "java/lang/Object" "clone" "()Ljava/lang/Object;" ∈ lw_all)
    (hnat : Cond.native ⟨"java/lang/Object", "clone", "()Ljava/lang/Object;"⟩ ∈ lw_all) (hin : Cond.instanceMethod ⟨"java/lang/Object", "clone", "()Ljava/lang/Object;"⟩ ∈ lw_all) (hsel : Cond.selects ad ⟨ad, "clone", "()Ljava/lang/Object;"⟩ ⟨"java/lang/Object", "clone", "()Ljava/lang/Object;"⟩ ∈ lw_all) (hcl : Cond.castable ad "java/lang/Cloneable" ∈ lw_tbl)
    (ha : h.2.2 a = some (.inr t, na, f)) (hz : ez E ≤ a) (had : "[" ++ (AT t).toString = ad) (hfit : ∀ i, i < na → fits (AT t) (f i) = true) (hw : (st.map fun v => v.category).sum ≤ 20) (hLm : lo.length = mL M) (h1 : h.1 + 1 ≤ eLc E) (h2 : h.2.1 + na ≤ eLs E)
    (kk : Ex l E d M (pc + 3) lo (.ref h.1 :: st) (hpush h (.inr t, na, f) na) Q) : Ex l E d M pc lo (.ref a :: st) h Q := by
  intro p e R s m args below meth c u C ls H locs cells slots hL hC T hT X
  have K := C.2.2.2.2.2.2.2.2.1
  have hown := C.2.2.2.2.2.1
  obtain ⟨r1, r2, r3, r4, -⟩ := C.2.2.2.2.2.2.2.2.2
  obtain ⟨hR, hlo, hcs, hss⟩ := hC
  obtain ⟨cell, hc1, hc2⟩ := hR.2 a _ ha
  obtain ⟨htN, harr, hun, hz1, hsz, hfs⟩ := id hc2
  obtain ⟨hcls, hvm⟩ := hz1 hz
  have hsz : cell.slots.size = na := hsz
  obtain ⟨kA, comp, g1, g2, g3, -⟩ := K.2.2.2.2.1 t htN
  rw [had] at g1
  obtain ⟨x, y, hx, hy, hxy⟩ := Cond.castable_spec (K.nest (args := args) hcl rfl rfl)
  cases g1.symm.trans hx
  have hcellT : T.heap[a]? = some cell := by rw [hT]; exact hc1
  obtain ⟨kA', hkA', he⟩ := X.warmed.alike.2.2 _ _ g2
  have hTs : T.heap.size = h.1 := by rw [hT]; exact hR.1.1
  obtain ⟨vm', X', step⟩ := X.cloneArray C.1 hown (K.word hq) (K.word hsame) (K.word hnat) (K.word hin) (K.word hsel) (a := a) (cell := cell) hcellT (fun k e => by rw [hvm] at e; cases e) hun (by rw [hcls]; exact g1) hy (by rw [hcls]; exact hxy)
    (fun i v hv => by
      have hi : i < na := by rw [← hsz]; exact (Array.getElem?_eq_some_iff.mp hv).1
      have hv2 := hfs i hi
      rw [hv] at hv2
      cases hv2
      rw [hcls]
      have hkd : kA'.kind = .array comp (AT t) := by rw [he]; exact g3
      have hk' : T.vm.classes[eA E t]? = some kA' := hkA'
      simpa [State.fitsSlot, State.slotType?, hk', hkd] using hfit i hi)
    (g := F0 m pc ls (.ref a :: st)) rfl (by rw [C.2.2.1, ← hLm]; exact hL.1) rfl (by rw [C.2.1]; exact hd) (by omega) (by show 2 * 0 + (st.map fun v => v.category).sum + 14 ≤ _; omega) (by omega) (by rw [hsz]; omega) (hloader := by rw [hcls]; exact Vm.clonesLoader_of_array g2 g3)
  rw [hsz] at X'
  rw [hTs] at step
  have hCR : CR E s h.1 { cls := cell.cls, slots := cell.slots } (.inr t, na, f) := ⟨htN, ⟨(fun k e => by cases e), kA, (by show s.vm.classes[cell.cls]? = _; rw [hcls]; exact g2), comp, g3⟩, (fun e => by cases e), fun _ => ⟨hcls, rfl⟩, hsz, hfs⟩
  have hHs : H.size = h.1 := hR.1.1
  obtain ⟨t1, a1, b1⟩ := kk p e R s m args below meth c u C ls (H.push { cls := cell.cls, slots := cell.slots }) locs (cells + 1) (slots + na) hL ⟨hR.push h1 h2 (by rw [← hHs, Array.getElem?_push_size]) (by rw [Array.size_push, hHs]) (fun q hq => by rw [Array.getElem?_push, if_neg (by omega)]) hCR, hlo, by show _ = h.1 + 1; omega, by show _ = h.2.1 + na; omega⟩ ((T.setVm vm').pushCell { cls := cell.cls, slots := cell.slots }) (by rw [← hT]; rfl) X'
  exact ⟨t1, step t1 a1, b1⟩
end CP
section CQ
variable {l : Launch} {E : EN} {d : Nat} {M : MR} {pc : Nat} {lo : LO} {st : List Value} {h : CH} {Q : Outcome → CH → Prop}
theorem rf_of {v : Value} (h : isR v = true) : ∃ r : Option Nat, v = va_rf r := by
  cases v with
  | null => exact ⟨none, rfl⟩
  | ref a => exact ⟨some a, rfl⟩
  | int _ => cases h
  | long _ => cases h
  | float _ => cases h
  | double _ => cases h
  | retAddr _ => cases h
theorem rf_inj {a b : Option Nat} (h : va_rf a = va_rf b) : a = b := by
  cases a <;> cases b <;> cases h <;> rfl
theorem x_acmp_ne {x y : Value} {off : Int} {tgt : Nat} (hd : decode (mB M) pc = .ok (.if_acmp .ne off, 3)) (ht : (pc : Int) + off = (tgt : Int)) (hx : isR x = true) (hy : isR y = true) (kt : ¬ x = y → Ex l E d M tgt lo st h Q) (kf : x = y → Ex l E d M (pc + 3) lo st h Q) : Ex l E d M pc lo (y :: x :: st) h Q := by
  intro p e R s m args below meth c u C ls H locs cells slots hL hC
  obtain ⟨rx, rfl⟩ := rf_of hx
  obtain ⟨ry, rfl⟩ := rf_of hy
  exact lv_acmp_ne C.1 C.2.1 hd ht (fun e1 => kt (fun z => e1 (rf_inj z)) p e R s m args below meth c u C ls H locs cells slots hL hC) (fun e1 => kf (by rw [e1]) p e R s m args below meth c u C ls H locs cells slots hL hC)
end CQ
