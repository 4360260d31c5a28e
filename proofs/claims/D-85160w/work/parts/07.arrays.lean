/-! THE RULES OF ARRAYS -/
/-- which number an array type of newarray has -/
def ATn : ArrayType → Nat
  | .int => 0
  | .long => 1
  | .byte => 2
  | .boolean => 3
  | _ => 99
theorem at_lt : ∀ t, t < NA → t < 4 → Cond.arrayClass (AT t) ∈ lw_all := by
  intro t h1 h2
  match t, h2 with
  | 0, _ => exact lw_g (show Cond.arrayClass .int ∈ lw_tbl by first | exact List.mem_append_right _ (by decide +kernel)) rfl
  | 1, _ => exact lw_g (show Cond.arrayClass .long ∈ lw_tbl by first | exact List.mem_append_right _ (by decide +kernel)) rfl
  | 2, _ => exact lw_g (show Cond.arrayClass .byte ∈ lw_tbl by first | exact List.mem_append_right _ (by decide +kernel)) rfl
  | 3, _ => exact lw_g (show Cond.arrayClass .boolean ∈ lw_tbl by first | exact List.mem_append_right _ (by decide +kernel)) rfl
theorem arr_fresh {E : EN} {s : State} (K : KX E s) {t : Nat} (ht : t < NA) (a N : Nat) (v : Value) : CR E s a (arrV (eA E t) N (fun _ => v)) (.inr t, N, fun _ => v) := by
  refine ⟨ht, (K.2.2.2.2.1 t ht).of rfl rfl, fun q => ?_, fun _ => ⟨rfl, rfl⟩, arrV_size _ _ _, fun j hj => arrV_read _ _ hj⟩
  cases q
section XA
variable {l : Launch} {E : EN} {d : Nat} {M : MR} {pc : Nat} {lo : LO} {st : List Value} {h : CH} {Q : Outcome → CH → Prop}
theorem x_newarray {at0 : ArrayType} {t N : Nat} {n : Int32} (hd : decode (mB M) pc = .ok (.newarray at0, 2)) (ht : t < 4) (hat : newarray.typeOf at0 = AT t) (hn : ¬ n < 0) (hN : n.toNatClampNeg = N) (hb : N ≤ 60000000) (h1 : h.1 + 1 ≤ eLc E) (h2 : h.2.1 + N ≤ eLs E)
    (kk : Ex l E d M (pc + 2) lo (.ref h.1 :: st) (hpush h (.inr t, N, fun _ => defaultValue (AT t)) N) Q) : Ex l E d M pc lo (.int n :: st) h Q := by
  intro p e R s m args below meth c u C ls H locs cells slots hL hC
  obtain ⟨hR, hlo, hcs, hss⟩ := hC
  have K := C.2.2.2.2.2.2.2.2.1
  obtain ⟨-, -, hrc, hrs, -⟩ := C.2.2.2.2.2.2.2.2.2
  have hta : t < NA := by unfold NA; omega
  have hcb : componentBytes (newarray.typeOf at0) ≤ 8 := by cases at0 <;> decide
  refine W.newa C.1 C.2.1 (by rw [hat]; exact K.word (at_lt t hta ht)) rfl hd rfl hn (by rw [hN]; exact Nat.le_trans (Nat.mul_le_mul hb hcb) (by decide)) (by omega) (by rw [hN]; omega) fun cA kA comp f1 f2 f3 => ?_
  rw [hat] at f1 f3 ⊢
  rw [hN]
  obtain ⟨kA', comp', g1, g2, g3, -⟩ := K.2.2.2.2.1 t hta
  cases f1.symm.trans g1
  have e1 : (({ cls := eA E t, slots := Array.replicate N (defaultValue (AT t)), vm := .none } : Cell)) = arrV (eA E t) N (fun _ => defaultValue (AT t)) := arrV_new _ _ _
  rw [e1, hR.1.1]
  refine kk p e R s m args below meth c u C ls _ locs (cells + 1) (slots + N) hL ⟨hR.push (cell := arrV (eA E t) N (fun _ => defaultValue (AT t))) h1 h2 ?_ ?_ ?_ (arr_fresh K hta _ _ _), hlo, by show s.heap.size + (cells + 1) = h.1 + 1; omega, by show u + (slots + N) = h.2.1 + N; omega⟩
  · rw [← hR.1.1]; simp
  · rw [Array.size_push, hR.1.1]
  · intro q hq
    rw [← hR.1.1] at hq
    simp [Array.getElem?_push, Nat.ne_of_lt hq]
/-- a new array of references -/
theorem x_anewarray {idx t N : Nat} {n : Int32} (hd : decode (mB M) pc = .ok (.anewarray idx, 3)) (ht : t < NA) (hov : Cond.arrayOver (AT t) ∈ lw_tbl)
    (hcl : (∃ C, AT t = .object C ∧ Cond.classLink (mY M).cls idx C ∈ lw_all) ∨ (∃ t0, AT t = .array t0 ∧ Cond.classLink (mY M).cls idx (FieldType.array t0).toString ∈ lw_all)) (hn : ¬ n < 0) (hN : n.toNatClampNeg = N) (hb : N ≤ 60000000) (h1 : h.1 + 1 ≤ eLc E) (h2 : h.2.1 + N ≤ eLs E)
    (kk : Ex l E d M (pc + 3) lo (.ref h.1 :: st) (hpush h (.inr t, N, fun _ => .null) N) Q) : Ex l E d M pc lo (.int n :: st) h Q := by
  intro p e R s m args below meth c u C ls H locs cells slots hL hC
  obtain ⟨hR, hlo, hcs, hss⟩ := hC
  have K := C.2.2.2.2.2.2.2.2.1
  have hown := C.2.2.2.2.2.1
  obtain ⟨-, -, hrc, hrs, -⟩ := C.2.2.2.2.2.2.2.2.2
  have hov' : (Cond.arrayOver (AT t)).before args s = true := K.2.1 _ hov rfl
  obtain ⟨kA', comp', g1, g2, g3, -⟩ := K.2.2.2.2.1 t ht
  have fin : ∀ cA : ClassId, s.vm.findClass ("[" ++ (AT t).toString) = some cA → W p l e R s m args below meth c (H.push { cls := cA, slots := Array.replicate n.toNatClampNeg .null, vm := .none }) locs (cells + 1) (slots + n.toNatClampNeg) (MX E below Q s u) (F0 m (pc + 3) ls (.ref H.size :: st)) := by
    intro cA f1
    cases f1.symm.trans g1
    rw [hN]
    have e1 : (({ cls := eA E t, slots := Array.replicate N .null, vm := .none } : Cell)) = arrV (eA E t) N (fun _ => .null) := arrV_new _ _ _
    rw [e1, hR.1.1]
    refine kk p e R s m args below meth c u C ls _ locs (cells + 1) (slots + N) hL ⟨hR.push (cell := arrV (eA E t) N (fun _ => .null)) h1 h2 ?_ ?_ ?_ (arr_fresh K ht _ _ _), hlo, by show s.heap.size + (cells + 1) = h.1 + 1; omega, by show u + (slots + N) = h.2.1 + N; omega⟩
    · rw [← hR.1.1]; simp
    · rw [Array.size_push, hR.1.1]
    · intro q hq
      rw [← hR.1.1] at hq
      simp [Array.getElem?_push, Nat.ne_of_lt hq]
  rcases hcl with ⟨C0, e0, hcl⟩ | ⟨t0, e0, hcl⟩
  · rw [e0] at hov' fin
    exact W.anew C.1 C.2.1 hown (K.word hcl) hov' rfl hd rfl hn (by rw [hN]; omega) (by omega) (by rw [hN]; omega) fun cA kA comp f1 _ _ _ => fin cA f1
  · rw [e0] at hov' fin
    exact W.anewA C.1 C.2.1 hown (K.word hcl) hov' rfl hd rfl hn (by rw [hN]; omega) (by omega) (by rw [hN]; omega) fun cA kA comp f1 _ _ _ => fin cA f1
theorem x_alen {a t n : Nat} {f : Nat → Value} (hd : decode (mB M) pc = .ok (.arraylength, 1)) (ha : h.2.2 a = some (.inr t, n, f)) (kk : Ex l E d M (pc + 1) lo (.int (nI n) :: st) h Q) : Ex l E d M pc lo (.ref a :: st) h Q := by
  intro p e R s m args below meth c u C ls H locs cells slots hL hC
  obtain ⟨cell, hc1, htN, harr, hun, -, hsz, hfs⟩ := hC.1.2 a _ ha
  exact W.alen (n := nI n) C.1 C.2.1 hc1 harr (by rw [hsz]; rfl) rfl rfl hd (kk p e R s m args below meth c u C ls H locs cells slots hL hC)
/-- element reads: i.toNatClampNeg = j < n -/
theorem x_iaload {a n j : Nat} {i : Int32} {f : Nat → Value} (hd : decode (mB M) pc = .ok (.iaload, 1)) (ha : h.2.2 a = some (.inr 0, n, f)) (hi : ¬ i < 0) (hj : i.toNatClampNeg = j) (hjn : j < n) (kk : Ex l E d M (pc + 1) lo (f j :: st) h Q) : Ex l E d M pc lo (.int i :: .ref a :: st) h Q := by
  intro p e R s m args below meth c u C ls H locs cells slots hL hC
  obtain ⟨cell, hc1, htN, harr, hun, -, hsz, hfs⟩ := hC.1.2 a _ ha
  have hsz : cell.slots.size = n := hsz
  subst hj
  exact W.iald C.1 C.2.1 hc1 harr hun (fun q => by rw [hsz] at q; rcases q with q | q; exact hi q; omega) (hfs _ hjn) rfl rfl hd (kk p e R s m args below meth c u C ls H locs cells slots hL hC)
theorem x_laload {a n j : Nat} {i : Int32} {f : Nat → Value} (hd : decode (mB M) pc = .ok (.laload, 1)) (ha : h.2.2 a = some (.inr 1, n, f)) (hi : ¬ i < 0) (hj : i.toNatClampNeg = j) (hjn : j < n) (kk : Ex l E d M (pc + 1) lo (f j :: st) h Q) : Ex l E d M pc lo (.int i :: .ref a :: st) h Q := by
  intro p e R s m args below meth c u C ls H locs cells slots hL hC
  obtain ⟨cell, hc1, htN, harr, hun, -, hsz, hfs⟩ := hC.1.2 a _ ha
  have hsz : cell.slots.size = n := hsz
  subst hj
  exact W.lald C.1 C.2.1 hc1 harr hun (fun q => by rw [hsz] at q; rcases q with q | q; exact hi q; omega) (hfs _ hjn) rfl rfl hd (kk p e R s m args below meth c u C ls H locs cells slots hL hC)
theorem x_baload {a n j t : Nat} {i : Int32} {f : Nat → Value} (hd : decode (mB M) pc = .ok (.baload, 1)) (ha : h.2.2 a = some (.inr t, n, f)) (ht : t = 2 ∨ t = 3) (hi : ¬ i < 0) (hj : i.toNatClampNeg = j) (hjn : j < n) (kk : Ex l E d M (pc + 1) lo (f j :: st) h Q) : Ex l E d M pc lo (.int i :: .ref a :: st) h Q := by
  intro p e R s m args below meth c u C ls H locs cells slots hL hC
  obtain ⟨cell, hc1, htN, harr, hun, -, hsz, hfs⟩ := hC.1.2 a _ ha
  have hsz : cell.slots.size = n := hsz
  subst hj
  rcases ht with rfl | rfl
  · exact W.bald C.1 C.2.1 hc1 harr hun (fun q => by rw [hsz] at q; rcases q with q | q; exact hi q; omega) (hfs _ hjn) rfl rfl hd (kk p e R s m args below meth c u C ls H locs cells slots hL hC)
  · exact W.zald C.1 C.2.1 hc1 harr hun (fun q => by rw [hsz] at q; rcases q with q | q; exact hi q; omega) (hfs _ hjn) rfl rfl hd (kk p e R s m args below meth c u C ls H locs cells slots hL hC)
theorem x_aaload {a n j t : Nat} {i : Int32} {f : Nat → Value} (hd : decode (mB M) pc = .ok (.aaload, 1)) (ha : h.2.2 a = some (.inr t, n, f)) (ht : 4 ≤ t) (hi : ¬ i < 0) (hj : i.toNatClampNeg = j) (hjn : j < n) (kk : Ex l E d M (pc + 1) lo (f j :: st) h Q) : Ex l E d M pc lo (.int i :: .ref a :: st) h Q := by
  intro p e R s m args below meth c u C ls H locs cells slots hL hC
  obtain ⟨cell, hc1, htN, harr, hun, -, hsz, hfs⟩ := hC.1.2 a _ ha
  have hsz : cell.slots.size = n := hsz
  have htN : t < 12 := htN
  subst hj
  have href : (AT t).isReference = true := by
    have : t = 4 ∨ t = 5 ∨ t = 6 ∨ t = 7 ∨ t = 8 ∨ t = 9 ∨ t = 10 ∨ t = 11 := by omega
    rcases this with rfl | rfl | rfl | rfl | rfl | rfl | rfl | rfl <;> rfl
  exact W.aald C.1 C.2.1 hc1 harr href hun (fun q => by rw [hsz] at q; rcases q with q | q; exact hi q; omega) (hfs _ hjn) rfl rfl hd (kk p e R s m args below meth c u C ls H locs cells slots hL hC)
theorem CR.store {E : EN} {s : State} {a t n j : Nat} {f : Nat → Value} {cell : Cell} {v : Value} (hc : CR E s a cell (.inr t, n, f)) (hj : j < n) : CR E s a (cell.setSlot j v) (.inr t, n, vup f j v) := by
  obtain ⟨htN, harr, hun, hex, hsz, hfs⟩ := hc
  have hsz : cell.slots.size = n := hsz
  refine ⟨htN, harr, hun, hex, by rw [k2_slotsz]; exact hsz, fun i hi => ?_⟩
  show (cell.setSlot j v).slots[i]? = some (vup f j v i)
  by_cases hij : i = j
  · subst hij
    rw [slot_same (by omega)]
    simp [vup]
  · rw [slot_other (Ne.symm hij), hfs i hi]
    simp [vup, hij]
theorem x_iastore {a n j : Nat} {i x : Int32} {f : Nat → Value} (hd : decode (mB M) pc = .ok (.iastore, 1)) (ha : h.2.2 a = some (.inr 0, n, f)) (hz : ez E ≤ a) (hi : ¬ i < 0) (hj : i.toNatClampNeg = j) (hjn : j < n) (kk : Ex l E d M (pc + 1) lo st (hset h a (.inr 0, n, vup f j (.int x))) Q) : Ex l E d M pc lo (.int x :: .int i :: .ref a :: st) h Q := by
  intro p e R s m args below meth c u C ls H locs cells slots hL hC
  obtain ⟨hR, hlo, hcs, hss⟩ := hC
  obtain ⟨cell, hc1, hc2⟩ := hR.2 a _ ha
  obtain ⟨htN, harr, hun, -, hsz, hfs⟩ := id hc2
  have hsz : cell.slots.size = n := hsz
  subst hj
  exact W.iast C.1 C.2.1 hc1 harr hun (fun q => by rw [hsz] at q; rcases q with q | q; exact hi q; omega) rfl rfl hd fun H1 e1 z1 o1 => kk p e R s m args below meth c u C ls H1 _ cells slots hL ⟨hR.set hz e1 z1 o1 (hc2.store hjn), t_lc hlo hz, hcs, hss⟩
theorem x_lastore {a n j : Nat} {i : Int32} {x : Int64} {f : Nat → Value} (hd : decode (mB M) pc = .ok (.lastore, 1)) (ha : h.2.2 a = some (.inr 1, n, f)) (hz : ez E ≤ a) (hi : ¬ i < 0) (hj : i.toNatClampNeg = j) (hjn : j < n) (kk : Ex l E d M (pc + 1) lo st (hset h a (.inr 1, n, vup f j (.long x))) Q) : Ex l E d M pc lo (.long x :: .int i :: .ref a :: st) h Q := by
  intro p e R s m args below meth c u C ls H locs cells slots hL hC
  obtain ⟨hR, hlo, hcs, hss⟩ := hC
  obtain ⟨cell, hc1, hc2⟩ := hR.2 a _ ha
  obtain ⟨htN, harr, hun, -, hsz, hfs⟩ := id hc2
  have hsz : cell.slots.size = n := hsz
  subst hj
  exact W.last C.1 C.2.1 hc1 harr hun (fun q => by rw [hsz] at q; rcases q with q | q; exact hi q; omega) rfl rfl hd fun H1 e1 z1 o1 => kk p e R s m args below meth c u C ls H1 _ cells slots hL ⟨hR.set hz e1 z1 o1 (hc2.store hjn), t_lc hlo hz, hcs, hss⟩
theorem x_bastore {a n j : Nat} {i x : Int32} {f : Nat → Value} (hd : decode (mB M) pc = .ok (.bastore, 1)) (ha : h.2.2 a = some (.inr 2, n, f)) (hz : ez E ≤ a) (hi : ¬ i < 0) (hj : i.toNatClampNeg = j) (hjn : j < n) (kk : Ex l E d M (pc + 1) lo st (hset h a (.inr 2, n, vup f j (narrow .byte (.int x)))) Q) : Ex l E d M pc lo (.int x :: .int i :: .ref a :: st) h Q := by
  intro p e R s m args below meth c u C ls H locs cells slots hL hC
  obtain ⟨hR, hlo, hcs, hss⟩ := hC
  obtain ⟨cell, hc1, hc2⟩ := hR.2 a _ ha
  obtain ⟨htN, harr, hun, -, hsz, hfs⟩ := id hc2
  have hsz : cell.slots.size = n := hsz
  subst hj
  exact W.bast C.1 C.2.1 hc1 harr hun (fun q => by rw [hsz] at q; rcases q with q | q; exact hi q; omega) rfl rfl hd fun H1 e1 z1 o1 => kk p e R s m args below meth c u C ls H1 _ cells slots hL ⟨hR.set hz e1 z1 o1 (hc2.store hjn), t_lc hlo hz, hcs, hss⟩
theorem x_zastore {a n j : Nat} {i x : Int32} {f : Nat → Value} (hd : decode (mB M) pc = .ok (.bastore, 1)) (ha : h.2.2 a = some (.inr 3, n, f)) (hz : ez E ≤ a) (hi : ¬ i < 0) (hj : i.toNatClampNeg = j) (hjn : j < n) (kk : Ex l E d M (pc + 1) lo st (hset h a (.inr 3, n, vup f j (narrow .boolean (.int x)))) Q) : Ex l E d M pc lo (.int x :: .int i :: .ref a :: st) h Q := by
  intro p e R s m args below meth c u C ls H locs cells slots hL hC
  obtain ⟨hR, hlo, hcs, hss⟩ := hC
  obtain ⟨cell, hc1, hc2⟩ := hR.2 a _ ha
  obtain ⟨htN, harr, hun, -, hsz, hfs⟩ := id hc2
  have hsz : cell.slots.size = n := hsz
  subst hj
  exact W.zast C.1 C.2.1 hc1 harr hun (fun q => by rw [hsz] at q; rcases q with q | q; exact hi q; omega) rfl rfl hd fun H1 e1 z1 o1 => kk p e R s m args below meth c u C ls H1 _ cells slots hL ⟨hR.set hz e1 z1 o1 (hc2.store hjn), t_lc hlo hz, hcs, hss⟩
end XA
