/-! THE RULES OF CASTS, REFERENCE STORES, STATICS, CONSTANTS, CLONES -/
def CKy (k : Nat) (nm : String) : Prop := nm = CN k ∨ Cond.castable (CN k) nm ∈ lw_tbl
theorem KX.castY {E : EN} {s : State} (K : KX E s) {k : Nat} (hk : k < NK) {nm : String} (h : CKy k nm) : ∃ y, s.vm.findClass nm = some y ∧ s.vm.assignable (eC E k) y = true := by
  obtain ⟨hfc, -⟩ := K.2.2.1 k hk
  rcases h with rfl | h
  · exact ⟨_, hfc, va_asg _ _⟩
  · obtain ⟨x, y, h1, h2, h3⟩ := Cond.castable_spec (K.nest (args := #[]) h rfl rfl)
    cases hfc.symm.trans h1
    exact ⟨y, h2, h3⟩
section XB
variable {l : Launch} {E : EN} {d : Nat} {M : MR} {pc : Nat} {lo : LO} {st : List Value} {h : CH} {Q : Outcome → CH → Prop}
theorem x_instY {a k n idx : Nat} {f : Nat → Value} {nm : String} (hd : decode (mB M) pc = .ok (.instanceof idx, 3)) (hq : Cond.classLink (mY M).cls idx nm ∈ lw_all) (ha : h.2.2 a = some (.inl k, n, f)) (hc : CKy k nm) (kk : Ex l E d M (pc + 3) lo (.int 1 :: st) h Q) : Ex l E d M pc lo (.ref a :: st) h Q := by
  intro p e R s m args below meth c u C ls H locs cells slots hL hC
  obtain ⟨cell, hc1, hkN, hcl, hun, hstat, -, hfs⟩ := hC.1.2 a _ ha
  have K := C.2.2.2.2.2.2.2.2.1
  have hown := C.2.2.2.2.2.1
  obtain ⟨y, f2, f3⟩ := K.castY hkN hc
  intro T hT X
  obtain ⟨vm', X', stp⟩ := X.instanceofYes C.1 hown (K.word hq) (by rw [hT]; exact hc1) hstat f2 (by rw [hcl]; exact f3) (g := F0 m pc ls (.ref a :: st)) rfl rfl (by rw [C.2.1]; exact hd)
  obtain ⟨t, a1, b1⟩ := kk p e R s m args below meth c u C ls H locs cells slots hL hC (T.setVm vm') hT X'
  exact ⟨t, stp t a1, b1⟩
theorem x_instN {a k n idx : Nat} {f : Nat → Value} {nm : String} (hd : decode (mB M) pc = .ok (.instanceof idx, 3)) (hq : Cond.classLink (mY M).cls idx nm ∈ lw_all) (ha : h.2.2 a = some (.inl k, n, f)) (hc : (CN k, nm) ∈ NCL) (kk : Ex l E d M (pc + 3) lo (.int 0 :: st) h Q) : Ex l E d M pc lo (.ref a :: st) h Q := by
  intro p e R s m args below meth c u C ls H locs cells slots hL hC
  obtain ⟨cell, hc1, hkN, hcl, hun, hstat, -, hfs⟩ := hC.1.2 a _ ha
  have K := C.2.2.2.2.2.2.2.2.1
  have hown := C.2.2.2.2.2.1
  obtain ⟨x, y, f1, f2, f3⟩ := K.2.2.2.2.2.1 _ hc
  obtain ⟨hfc, kC, hkC, -⟩ := K.2.2.1 k hkN
  cases hfc.symm.trans f1
  intro T hT X
  obtain ⟨vm', X', stp⟩ := va_instofNo X C.1 hown (K.word hq) (by rw [hT]; exact hc1) hstat (by rw [hcl]; exact hkC) f2 (by rw [hcl]; exact f3) (g := F0 m pc ls (.ref a :: st)) rfl rfl (by rw [C.2.1]; exact hd)
  obtain ⟨t, a1, b1⟩ := kk p e R s m args below meth c u C ls H locs cells slots hL hC (T.setVm vm') hT X'
  exact ⟨t, stp t a1, b1⟩
theorem x_inst0 {idx : Nat} (hd : decode (mB M) pc = .ok (.instanceof idx, 3)) (kk : Ex l E d M (pc + 3) lo (.int 0 :: st) h Q) : Ex l E d M pc lo (.null :: st) h Q := by
  intro p e R s m args below meth c u C ls H locs cells slots hL hC
  exact lv_instN C.1 C.2.1 hd (kk p e R s m args below meth c u C ls H locs cells slots hL hC)
theorem x_cast0 {idx : Nat} (hd : decode (mB M) pc = .ok (.checkcast idx, 3)) (kk : Ex l E d M (pc + 3) lo (.null :: st) h Q) : Ex l E d M pc lo (.null :: st) h Q := by
  intro p e R s m args below meth c u C ls H locs cells slots hL hC
  exact lv_castN C.1 C.2.1 hd (kk p e R s m args below meth c u C ls H locs cells slots hL hC)
theorem x_castY {a k n idx : Nat} {f : Nat → Value} {nm : String} (hd : decode (mB M) pc = .ok (.checkcast idx, 3)) (hq : Cond.classLink (mY M).cls idx nm ∈ lw_all) (ha : h.2.2 a = some (.inl k, n, f)) (hc : CKy k nm) (kk : Ex l E d M (pc + 3) lo (.ref a :: st) h Q) : Ex l E d M pc lo (.ref a :: st) h Q := by
  intro p e R s m args below meth c u C ls H locs cells slots hL hC
  obtain ⟨cell, hc1, hkN, hcl, hun, hstat, -, hfs⟩ := hC.1.2 a _ ha
  have K := C.2.2.2.2.2.2.2.2.1
  have hown := C.2.2.2.2.2.1
  obtain ⟨y, f2, f3⟩ := K.castY hkN hc
  intro T hT X
  obtain ⟨vm', X', stp⟩ := X.checkcastYes C.1 hown (K.word hq) (by rw [hT]; exact hc1) hstat f2 (by rw [hcl]; exact f3) (g := F0 m pc ls (.ref a :: st)) rfl rfl (by rw [C.2.1]; exact hd)
  obtain ⟨t, a1, b1⟩ := kk p e R s m args below meth c u C ls H locs cells slots hL hC (T.setVm vm') hT X'
  exact ⟨t, stp t a1, b1⟩
/-- an array of our own making is of its class -/
theorem x_castA {a t n idx : Nat} {f : Nat → Value} {nm : String} (hd : decode (mB M) pc = .ok (.checkcast idx, 3)) (hq : Cond.classLink (mY M).cls idx nm ∈ lw_all) (ha : h.2.2 a = some (.inr t, n, f)) (hz : ez E ≤ a) (hnm : "[" ++ (AT t).toString = nm) (kk : Ex l E d M (pc + 3) lo (.ref a :: st) h Q) : Ex l E d M pc lo (.ref a :: st) h Q := by
  intro p e R s m args below meth c u C ls H locs cells slots hL hC
  obtain ⟨cell, hc1, htN, harr, hun, hex, -⟩ := hC.1.2 a _ ha
  obtain ⟨hcl, hvm⟩ := hex hz
  have K := C.2.2.2.2.2.2.2.2.1
  have hown := C.2.2.2.2.2.1
  obtain ⟨kA, comp, g1, -⟩ := K.2.2.2.2.1 t htN
  rw [hnm] at g1
  intro T hT X
  obtain ⟨vm', X', stp⟩ := X.checkcastYes C.1 hown (K.word hq) (by rw [hT]; exact hc1) (by rw [hvm]; rfl) g1 (by rw [hcl]; exact va_asg _ _) (g := F0 m pc ls (.ref a :: st)) rfl rfl (by rw [C.2.1]; exact hd)
  obtain ⟨t, a1, b1⟩ := kk p e R s m args below meth c u C ls H locs cells slots hL hC (T.setVm vm') hT X'
  exact ⟨t, stp t a1, b1⟩
/-- a reference is stored into an array of objects -/
theorem x_aastore {a n j t b kb nb : Nat} {i : Int32} {f g : Nat → Value} {C0 : String} (hd : decode (mB M) pc = .ok (.aastore, 1)) (ha : h.2.2 a = some (.inr t, n, f)) (hz : ez E ≤ a) (hat : AT t = .object C0) (hb : h.2.2 b = some (.inl kb, nb, g)) (hc : CKy kb C0) (hi : ¬ i < 0) (hj : i.toNatClampNeg = j) (hjn : j < n)
    (kk : Ex l E d M (pc + 1) lo st (hset h a (.inr t, n, vup f j (.ref b))) Q) : Ex l E d M pc lo (.ref b :: .int i :: .ref a :: st) h Q := by
  intro p e R s m args below meth c u C ls H locs cells slots hL hC
  obtain ⟨hR, hlo, hcs, hss⟩ := hC
  obtain ⟨cell, hc1, hc2⟩ := hR.2 a _ ha
  obtain ⟨htN, harr, hun, hex, hsz, hfs⟩ := id hc2
  obtain ⟨hcl, hvm⟩ := hex hz
  obtain ⟨cb, hb1, hkb, hclb, -, hstb, -⟩ := hR.2 b _ hb
  have hsz : cell.slots.size = n := hsz
  have K := C.2.2.2.2.2.2.2.2.1
  obtain ⟨kA, comp, g1, g2, g3, g4, -⟩ := K.2.2.2.2.1 t htN
  obtain ⟨y, f2, f3⟩ := K.castY hkb hc
  cases (g4 C0 hat).symm.trans f2
  obtain ⟨-, kC, hkC, -⟩ := K.2.2.1 kb hkb
  obtain ⟨kcomp, hkcomp⟩ := Vm.classAt_of_findClass f2
  subst hj
  exact W.aast C.1 C.2.1 hc1 (fun q hq => by rw [hvm] at hq; cases hq) hun (by rw [hcl]; exact g2) g3 (by rw [hat]; rfl) hkcomp ⟨hi, by rw [hsz]; exact hjn⟩ hb1 (VmData.ne_statics_of hstb) (by rw [hclb]; exact hkC) (by rw [hclb]; exact f3) rfl rfl hd
    fun H1 e1 z1 o1 => kk p e R s m args below meth c u C ls H1 _ cells slots hL ⟨hR.set hz e1 z1 o1 (hc2.store hjn), t_lc hlo hz, hcs, hss⟩
/-- an int array is stored into an array of int arrays -/
theorem x_aastoreA {a n j b nb : Nat} {i : Int32} {f g : Nat → Value} (hd : decode (mB M) pc = .ok (.aastore, 1)) (ha : h.2.2 a = some (.inr 11, n, f)) (hz : ez E ≤ a) (hb : h.2.2 b = some (.inr 0, nb, g)) (hzb : ez E ≤ b) (hi : ¬ i < 0) (hj : i.toNatClampNeg = j) (hjn : j < n)
    (kk : Ex l E d M (pc + 1) lo st (hset h a (.inr 11, n, vup f j (.ref b))) Q) : Ex l E d M pc lo (.ref b :: .int i :: .ref a :: st) h Q := by
  intro p e R s m args below meth c u C ls H locs cells slots hL hC
  obtain ⟨hR, hlo, hcs, hss⟩ := hC
  obtain ⟨cell, hc1, hc2⟩ := hR.2 a _ ha
  obtain ⟨htN, harr, hun, hex, hsz, hfs⟩ := id hc2
  obtain ⟨hcl, hvm⟩ := hex hz
  obtain ⟨cb, hb1, htb, -, -, hexb, -⟩ := hR.2 b _ hb
  obtain ⟨hclb, hvmb⟩ := hexb hzb
  have hsz : cell.slots.size = n := hsz
  have K := C.2.2.2.2.2.2.2.2.1
  obtain ⟨kA, comp, g1, g2, g3, -, g5⟩ := K.2.2.2.2.1 11 htN
  obtain ⟨kI, compI, i1, i2, i3, -⟩ := K.2.2.2.2.1 0 htb
  have hcomp := g5 .int rfl
  have e0 : (AT 11).toString = "[" ++ (AT 0).toString := by decide +kernel
  rw [e0] at hcomp
  cases hcomp.symm.trans i1
  subst hj
  exact W.aast C.1 C.2.1 hc1 (fun q hq => by rw [hvm] at hq; cases hq) hun (by rw [hcl]; exact g2) g3 rfl i2 ⟨hi, by rw [hsz]; exact hjn⟩ hb1 (fun q hq => by rw [hvmb] at hq; cases hq) (by rw [hclb]; exact i2) (by rw [hclb]; exact va_asg _ _) rfl rfl hd
    fun H1 e1 z1 o1 => kk p e R s m args below meth c u C ls H1 _ cells slots hL ⟨hR.set hz e1 z1 o1 (hc2.store hjn), t_lc hlo hz, hcs, hss⟩
theorem x_aastore0 {a n j t : Nat} {i : Int32} {f : Nat → Value} {C0 : String} (hd : decode (mB M) pc = .ok (.aastore, 1)) (ha : h.2.2 a = some (.inr t, n, f)) (hz : ez E ≤ a) (hat : AT t = .object C0) (hi : ¬ i < 0) (hj : i.toNatClampNeg = j) (hjn : j < n)
    (kk : Ex l E d M (pc + 1) lo st (hset h a (.inr t, n, vup f j .null)) Q) : Ex l E d M pc lo (.null :: .int i :: .ref a :: st) h Q := by
  intro p e R s m args below meth c u C ls H locs cells slots hL hC
  obtain ⟨hR, hlo, hcs, hss⟩ := hC
  obtain ⟨cell, hc1, hc2⟩ := hR.2 a _ ha
  obtain ⟨htN, harr, hun, hex, hsz, hfs⟩ := id hc2
  have hsz : cell.slots.size = n := hsz
  subst hj
  exact va_WaastN C.1 C.2.1 hc1 (by rw [hat] at harr; exact harr) hun (fun q => by rw [hsz] at q; rcases q with q | q; exact hi q; omega) rfl rfl hd
    fun H1 e1 z1 o1 => kk p e R s m args below meth c u C ls H1 _ cells slots hL ⟨hR.set hz e1 z1 o1 (hc2.store hjn), t_lc hlo hz, hcs, hss⟩
/-- a static is read -/
theorem x_getstatic {i idx : Nat} {q : String × String × String} {ref : String} (hd : decode (mB M) pc = .ok (.getstatic idx, 3)) (hi : STs[i]? = some q) (hq : Cond.fieldLink (mY M).cls idx q.1 q.2.1 q.2.2 ∈ lw_all ∨ ∃ host, Cond.fieldLinkNest (mY M).cls idx q.1 q.2.1 q.2.2 host ∈ lw_tbl) (kk : Ex l E d M (pc + 3) lo (eSV E i :: st) h Q) : Ex l E d M pc lo st h Q := by
  intro p e R s m args below meth c u C ls H locs cells slots hL hC
  have K := C.2.2.2.2.2.2.2.2.1
  have hown := C.2.2.2.2.2.1
  obtain ⟨cf, kf, fi, f, a, cell, -, h1, h2, h3, h4, h8, h5, h6, -, -, -, h7⟩ := K.2.2.2.2.2.2.1 i q hi
  have hH : H[a]? = some cell := by rw [hC.1.1.2.2.1 a h8]; exact h5
  rcases hq with hq | ⟨host, hq⟩
  · exact W.gets C.1 C.2.1 hown (K.word hq) h1 h2 h3 h4 hH (fun e => by rw [e] at h6; cases h6) h7 rfl hd (kk p e R s m args below meth c u C ls H locs cells slots hL hC)
  · exact va_WgetsN C.1 C.2.1 hown (K.nest hq rfl rfl) h1 h2 h3 h4 hH (fun e => by rw [e] at h6; cases h6) h7 rfl hd (kk p e R s m args below meth c u C ls H locs cells slots hL hC)
theorem x_ldcS {i idx : Nat} {tx : String} (hd : decode (mB M) pc = .ok (.ldc idx, 2)) (hi : SKs[i]? = some ((mY M).cls, idx, tx)) (kk : Ex l E d M (pc + 2) lo (.ref (eSC E i) :: st) h Q) : Ex l E d M pc lo st h Q := by
  intro p e R s m args below meth c u C ls H locs cells slots hL hC
  have K := C.2.2.2.2.2.2.2.2.1
  exact va_ldcS C.1 C.2.1 C.2.2.2.2.2.1 (K.2.2.2.2.2.2.2.2 i _ hi) hd (kk p e R s m args below meth c u C ls H locs cells slots hL hC)
theorem x_ldc {idx : Nat} {v : Int32} (hd : decode (mB M) pc = .ok (.ldc idx, 2)) (hq : Cond.constant (mY M).cls idx v ∈ lw_all) (kk : Ex l E d M (pc + 2) lo (.int v :: st) h Q) : Ex l E d M pc lo st h Q := by
  intro p e R s m args below meth c u C ls H locs cells slots hL hC
  have K := C.2.2.2.2.2.2.2.2.1
  exact W.ldc C.1 C.2.1 C.2.2.2.2.2.1 (K.word hq) rfl hd (kk p e R s m args below meth c u C ls H locs cells slots hL hC)
theorem x_ldcw {idx : Nat} {v : Int32} (hd : decode (mB M) pc = .ok (.ldc_w idx, 3)) (hq : Cond.constant (mY M).cls idx v ∈ lw_all) (kk : Ex l E d M (pc + 3) lo (.int v :: st) h Q) : Ex l E d M pc lo st h Q := by
  intro p e R s m args below meth c u C ls H locs cells slots hL hC
  have K := C.2.2.2.2.2.2.2.2.1
  exact lv_ldcw C.1 C.2.1 C.2.2.2.2.2.1 (K.word hq) hd (kk p e R s m args below meth c u C ls H locs cells slots hL hC)
theorem x_ldc2 {idx : Nat} {v : Int64} (hd : decode (mB M) pc = .ok (.ldc2_w idx, 3)) (hq : Cond.constantLong (mY M).cls idx v ∈ lw_all) (kk : Ex l E d M (pc + 3) lo (.long v :: st) h Q) : Ex l E d M pc lo st h Q := by
  intro p e R s m args below meth c u C ls H locs cells slots hL hC
  have K := C.2.2.2.2.2.2.2.2.1
  exact W.ldc2 C.1 C.2.1 C.2.2.2.2.2.1 (K.word hq) rfl hd (kk p e R s m args below meth c u C ls H locs cells slots hL hC)
end XB
