/-! anewarray and multianewarray with a length below 0 -/
section XN1
variable {e : Env} {T : State} {EE : CtlPost} {f : JFrame}
theorem multi_neg1 {Q : Addr → Pre} {dd : Bool} {acts : List Action} {cA : ClassId} {n : Int32} {r : List Int32} (hn : n < 0)
    (hE : EE (.throwNew "java/lang/NegativeArraySizeException" (some (toString n))) acts (T.setTop f)) :
    wp (multianewarray.make cA (n :: r)) Q EE e dd acts (T.setTop f) := by
  unfold multianewarray.make
  simp only [wp_bind', W.ite, hn, if_true, multianewarray.negative, W.mark, W.throwNew]
  exact hE
theorem multi_neg2 {Q : Addr → Pre} {dd : Bool} {acts : List Action} {cA cI : ClassId} {kA : Class} {n w : Int32} (hs : T.topJava?.isSome) (hkA : T.vm.classes[cA]? = some kA) (hkindA : kA.kind = .array cI (.array .int)) (hn : ¬ n < 0) (hw : w < 0) (hlimit : ¬ n.toNatClampNeg > e.platform.arrayLengthLimit) (hheap : ¬ n.toNatClampNeg * componentBytes (.array .int) > e.platform.maxHeapBytes)
    (h1 : T.heap.size + 1 ≤ e.platform.maxCells) (h2 : T.slotsUsed + n.toNatClampNeg ≤ e.platform.maxSlots)
    (hE : ∀ acts, EE (.throwNew "java/lang/NegativeArraySizeException" (some (toString w))) acts ((T.pushCell (mo cA n.toNatClampNeg T.heap.size 0)).setTop f)) :
    wp (multianewarray.make cA [n, w]) Q EE e dd acts (T.setTop f) := by
  have hslim : ¬ n.toNatClampNeg > e.platform.maxSlots := by omega
  unfold multianewarray.make
  simp only [wp_bind', W.ite, hn, if_false, wp_pure', W.theClass, State.vm_setTop, hkA, hkindA, Jvm.newArray, Jvm.arrayFits, W.ask, hlimit, hheap, hslim, W.alloc, W.stop, Option.some.injEq, exists_eq_left', List.find?, hw, decide_true]
  simp only [State.heap_setTop, State.slotsUsed_setTop, State.fitsSlot_setTop, Array.size_replicate, State.pushCell_setTop]
  have hfit : ∀ i v, (Array.replicate n.toNatClampNeg Value.null)[i]? = some v → T.fitsSlot cA .none i v = true := by
    intro i v hv
    simp only [Array.getElem?_replicate] at hv
    split at hv
    · cases hv; simp [State.fitsSlot, State.slotType?, hkA, hkindA]; rfl
    · cases hv
  refine ⟨by omega, by omega, hfit, ?_⟩
  split
  · simp only [multianewarray.negative, wp_bind', W.mark, W.throwNew]
    exact hE _
  · rename_i hz
    have hsz : Std.Legacy.Range.size [:n.toNatClampNeg] = n.toNatClampNeg := by simp [Std.Legacy.Range.size]
    rw [Std.Legacy.Range.forIn_eq_forIn_range', hsz]
    have hp : n.toNatClampNeg = (n.toNatClampNeg - 1) + 1 := by
      have hz' : ¬ n = 0 := by simpa using hz
      have : n.toNatClampNeg = n.toInt.toNat := rfl
      have h0 : ¬ n.toInt < 0 := fun q => hn (Int32.lt_iff_toInt_lt.mpr q)
      have h9 : n.toInt ≠ 0 := fun q => hz' (Int32.toInt_inj.mp q)
      omega
    rw [hp, List.range'_succ, List.forIn_cons, ← hp]
    simp only [wp_bind']
    refine multi_neg1 (T := T.pushCell (mo cA n.toNatClampNeg T.heap.size 0)) hw (hE _)
end XN1
section XN2
variable {l : Launch} {E : EN} {d : Nat} {M : MR} {pc : Nat} {lo : LO} {st : List Value} {h : CH} {Q : Outcome → CH → Prop}
theorem x_anewarrayNeg {idx t : Nat} {n : Int32} {C0 : String} (hd : decode (mB M) pc = .ok (.anewarray idx, 3)) (hov : Cond.arrayOver (AT t) ∈ lw_tbl) (e0 : AT t = .object C0) (hcl : Cond.classLink (mY M).cls idx C0 ∈ lw_all) (hn : n < 0) (hw : (st.map fun v => v.category).sum ≤ 20) (hLm : lo.length = mL M) (h1 : h.1 + 3 ≤ eLc E) (h2 : h.2.1 + 222 ≤ eLs E)
    (kk : ExT l E d M pc lo st (h.1 + 2) (hexc h 37) Q) : Ex l E d M pc lo (.int n :: st) h Q := by
  intro p e R s m args below meth c u C ls H locs cells slots hL hC T hT X
  have hexec := C.1
  have hcode := C.2.1
  have hown := C.2.2.2.2.2.1
  have K := C.2.2.2.2.2.2.2.2.1
  have hover : (Cond.arrayOver (AT t)).before args s = true := K.2.1 _ hov rfl
  rw [e0] at hover
  have hpl : e.platform.magicAccessors = ({} : Platform).magicAccessors := by rw [X.admits.platform]
  obtain ⟨comp, cA, kA, hcomp, hidx, hkA, hkindA, hnameA⟩ := Cond.arrayOver_spec hover
  obtain ⟨kComp, hkComp, -⟩ := Vm.findClass_spec hcomp
  obtain ⟨cc, hfcc, hcl⟩ := Cond.classLink_spec (args := args) hown (K.word hcl) e.platform hpl
  cases hcomp.symm.trans hfcc
  obtain ⟨hg₁, hwarm₁, hready₁⟩ := State.classEntry (e := e) X.warmed hcl
  generalize T.vm.noted m.cls idx (.cls comp) = vm₁ at hg₁ hwarm₁ hready₁
  have hal : s.vm.Alike vm₁ := hwarm₁.alike
  obtain ⟨kComp₁, hkComp₁, -⟩ := hal.2.2 _ _ hkComp
  have hidx₁ : (vm₁.classes.findIdx? fun x => match x.kind with | .array component _ => component == comp | _ => false) = some cA := by
    rw [hal.findIdx?_eq _ (fun _ => rfl)]; exact hidx
  have X₁ := X.noted hwarm₁
  obtain ⟨t, a1, b1⟩ := xn (k := 37) (names := upR) (text := toString n) (by decide) okN (by decide +kernel) (by decide +kernel) (by decide) (by decide) (by decide) (negative_text_modelled hn) (Nat.le_trans (negative_text_bytes n) (by decide)) hw hLm h1 h2 kk C hL hC (T := T.setVm vm₁) hT X₁
  refine ⟨t, ?_, b1⟩
  jvm_step X.here [hexec, hcode, hd, anewarray.wp_cold (e := e) (s := T) (f := F0 m pc ls (.int n :: st)) X.here.top hg₁ hready₁,
    anew_wpNeg (e := e) (s := T.setVm vm₁) (f := F0 m pc ls (.int n :: st)) (kc := kComp₁) X.here.top hready₁ hkComp₁ hidx₁ rfl hn]
  exact a1
theorem x_multiNeg1 {idx : Nat} {n w : Int32} (hd : decode (mB M) pc = .ok (.multianewarray idx 2, 4)) (hq : Cond.classLink (mY M).cls idx "[[I" ∈ lw_all) (hn : n < 0) (hw : (st.map fun v => v.category).sum ≤ 20) (hLm : lo.length = mL M) (h1 : h.1 + 3 ≤ eLc E) (h2 : h.2.1 + 222 ≤ eLs E)
    (kk : ExT l E d M pc lo st (h.1 + 2) (hexc h 37) Q) : Ex l E d M pc lo (.int w :: .int n :: st) h Q := by
  intro p e R s m args below meth c u C ls H locs cells slots hL hC T hT X
  have hexec := C.1
  have hcode := C.2.1
  have hown := C.2.2.2.2.2.1
  have K := C.2.2.2.2.2.2.2.2.1
  have hpl : e.platform.magicAccessors = ({} : Platform).magicAccessors := by rw [X.admits.platform]
  obtain ⟨cc, hfcc, hcl⟩ := Cond.classLink_spec (args := args) hown (K.word hq) e.platform hpl
  obtain ⟨hg₁, hwarm₁, hready₁⟩ := State.classEntry (e := e) X.warmed hcl
  generalize T.vm.noted m.cls idx (.cls cc) = vm₁ at hg₁ hwarm₁ hready₁
  have X₁ := X.noted hwarm₁
  obtain ⟨t, a1, b1⟩ := xn (k := 37) (names := upR) (text := toString n) (by decide) okN (by decide +kernel) (by decide +kernel) (by decide) (by decide) (by decide) (negative_text_modelled hn) (Nat.le_trans (negative_text_bytes n) (by decide)) hw hLm h1 h2 kk C hL hC (T := T.setVm vm₁) hT X₁
  have hs₁ : (T.setVm vm₁).topJava?.isSome := X.here.top
  refine ⟨t, ?_, b1⟩
  have go : ∀ {QQ : Unit → Pre} {EE : CtlPost} {dd : Bool} {acts : List Action}, (∀ acts, EE (.throwNew "java/lang/NegativeArraySizeException" (some (toString n))) acts ((T.setVm vm₁).setTop (F0 m pc ls st))) → wp (multianewarray.sem idx 2) QQ EE e dd acts (T.setTop (F0 m pc ls (.int w :: .int n :: st))) := by
    intro QQ EE dd acts hE
    refine (multi_cold (T := T) (f := F0 m pc ls (.int w :: .int n :: st)) X.here.top hg₁ hready₁ (by no_record)).mpr ?_
    refine multi_sem (T := T.setVm vm₁) (f := F0 m pc ls (.int w :: .int n :: st)) hs₁ hready₁ rfl (fun dd acts => ?_)
    exact multi_neg1 (T := T.setVm vm₁) hn (hE _)
  jvm_step X.here [hexec, hcode, hd]
  refine go (fun acts => ?_)
  have e37 : CN 37 = "java/lang/NegativeArraySizeException" := rfl
  rw [e37] at a1
  simpa [jvm, hs₁] using a1
theorem x_multiNeg2 {idx N : Nat} {n w : Int32} (hd : decode (mB M) pc = .ok (.multianewarray idx 2, 4)) (hq : Cond.classLink (mY M).cls idx "[[I" ∈ lw_all) (hn : ¬ n < 0) (hN : n.toNatClampNeg = N) (hw0 : w < 0) (hb : N ≤ 1000) (hw : (st.map fun v => v.category).sum ≤ 20) (hLm : lo.length = mL M) (h1 : h.1 + 1 + 3 ≤ eLc E) (h2 : h.2.1 + N + 222 ≤ eLs E)
    (kk : ExT l E d M pc lo st (h.1 + 1 + 2) (hexc (hpush h (.inr 11, N, fun _ => .null) N) 37) Q) : Ex l E d M pc lo (.int w :: .int n :: st) h Q := by
  intro p e R s m args below meth c u C ls H locs cells slots hL hC T hT X
  obtain ⟨hR, hlo, hcs, hss⟩ := hC
  have hexec := C.1
  have hcode := C.2.1
  have hown := C.2.2.2.2.2.1
  have K := C.2.2.2.2.2.2.2.2.1
  obtain ⟨-, -, hrc, hrs, -⟩ := C.2.2.2.2.2.2.2.2.2
  have hpl : e.platform.magicAccessors = ({} : Platform).magicAccessors := by rw [X.admits.platform]
  obtain ⟨kA, comp, g1, g2, g3, -, g5⟩ := K.2.2.2.2.1 11 (by decide)
  obtain ⟨kI, compI, i1, i2, i3, -⟩ := K.2.2.2.2.1 0 (by decide)
  have hcomp := g5 .int rfl
  have e0 : (AT 11).toString = "[" ++ (AT 0).toString := by decide +kernel
  rw [e0] at hcomp
  cases hcomp.symm.trans i1
  have e9 : "[" ++ (AT 11).toString = "[[I" := by decide +kernel
  rw [e9] at g1
  obtain ⟨cc', hfcc, hcl⟩ := Cond.classLink_spec (args := args) hown (K.word hq) e.platform hpl
  cases hfcc.symm.trans g1
  obtain ⟨hg₁, hwarm₁, hready₁⟩ := State.classEntry (e := e) X.warmed hcl
  generalize T.vm.noted m.cls idx (.cls (eA E 11)) = vm₁ at hg₁ hwarm₁ hready₁
  have hal : s.vm.Alike vm₁ := hwarm₁.alike
  obtain ⟨kA₁, hkA₁, heA⟩ := hal.2.2 _ _ g2
  have hkindA₁ : kA₁.kind = .array (eA E 0) (.array .int) := by rw [heA]; exact g3
  have X₁ := X.noted hwarm₁
  have hTh : (T.setVm vm₁).heap = H := hT
  have XN := mT_stand X₁ (eA E 11) (eA E 0) N 0 0
  have hRT : HR E s h (T.setVm vm₁).heap := by rw [hTh]; exact hR
  have hsz : (T.setVm vm₁).heap.size = h.1 := by rw [hTh]; exact hR.1.1
  have hcr : CR E s h.1 (mo (eA E 11) N (T.setVm vm₁).heap.size 0) (.inr 11, N, fun _ => .null) := by
    have e1 : mo (eA E 11) N (T.setVm vm₁).heap.size 0 = arrV (eA E 11) N (fun _ => .null) := arrV_new _ _ _
    rw [e1]
    exact arr_fresh K (by decide) _ _ _
  have hHR : HR E s (hpush h (.inr 11, N, fun _ => .null) N) (mT (T.setVm vm₁) (eA E 11) (eA E 0) N 0 0).heap := by
    refine hRT.push (H1 := (mT (T.setVm vm₁) (eA E 11) (eA E 0) N 0 0).heap) (cell := mo (eA E 11) N (T.setVm vm₁).heap.size 0) (by omega) (by omega) ?_ ?_ ?_ hcr
    · show ((T.setVm vm₁).heap.push _)[h.1]? = _
      rw [← hsz]; simp
    · show ((T.setVm vm₁).heap.push _).size = _
      rw [Array.size_push, hsz]
    · intro q hq
      show ((T.setVm vm₁).heap.push _)[q]? = _
      rw [← hsz] at hq
      rw [Array.getElem?_push, if_neg (Nat.ne_of_lt hq)]
  have hlo2 : ∀ q ∈ locs ++ (List.range 0).map (fun i => (⟨(T.setVm vm₁).heap.size, i⟩ : Loc)), ez E ≤ q.base := fun q hq => by
    rcases List.mem_append.mp hq with hq | hq
    · exact hlo q hq
    · simp at hq
  obtain ⟨t, a1, b1⟩ := xn (k := 37) (names := upR) (text := toString w) (h := hpush h (.inr 11, N, fun _ => .null) N) (by decide) okN (by decide +kernel) (by decide +kernel) (by decide) (by decide) (by decide) (negative_text_modelled hw0) (Nat.le_trans (negative_text_bytes w) (by decide)) hw hLm (by show h.1 + 1 + 3 ≤ _; omega) (by show h.2.1 + N + 222 ≤ _; omega) kk C hL
    (show Cur E s u (hpush h (.inr 11, N, fun _ => .null) N) (mT (T.setVm vm₁) (eA E 11) (eA E 0) N 0 0).heap _ _ _ from ⟨hHR, hlo2, (by show s.heap.size + (cells + 1 + 0) = h.1 + 1; omega), (by show u + (slots + N + 0 * 0) = h.2.1 + N; omega)⟩) (T := mT (T.setVm vm₁) (eA E 11) (eA E 0) N 0 0) rfl XN
  obtain ⟨hr1, hr2⟩ := X.roomAbove (a := 1) (b := N) (by omega) (by omega)
  have hlim := Launch.admits_arrayLengthLimit X.admits
  have hmh := Launch.admits_maxHeapBytes X.admits
  have hs₁ : (T.setVm vm₁).topJava?.isSome := X.here.top
  have hsN : (mT (T.setVm vm₁) (eA E 11) (eA E 0) N 0 0).topJava?.isSome := by rw [(mT_at (T.setVm vm₁) (eA E 11) (eA E 0) N 0 0).2.2.2.2]; exact hs₁
  refine ⟨t, ?_, b1⟩
  have go : ∀ {QQ : Unit → Pre} {EE : CtlPost} {dd : Bool} {acts : List Action}, (∀ acts, EE (.throwNew "java/lang/NegativeArraySizeException" (some (toString w))) acts ((mT (T.setVm vm₁) (eA E 11) (eA E 0) N 0 0).setTop (F0 m pc ls st))) → wp (multianewarray.sem idx 2) QQ EE e dd acts (T.setTop (F0 m pc ls (.int w :: .int n :: st))) := by
    intro QQ EE dd acts hE
    refine (multi_cold (T := T) (f := F0 m pc ls (.int w :: .int n :: st)) X.here.top hg₁ hready₁ (by no_record)).mpr ?_
    refine multi_sem (T := T.setVm vm₁) (f := F0 m pc ls (.int w :: .int n :: st)) hs₁ hready₁ rfl (fun dd acts => ?_)
    refine multi_neg2 (T := T.setVm vm₁) hs₁ hkA₁ hkindA₁ hn hw0 ?_ ?_ ?_ ?_ (fun acts => ?_)
    · rw [hlim, hN]; omega
    · rw [hmh, hN]; show ¬ N * 4 > 536870912; omega
    · show T.heap.size + 1 ≤ _; omega
    · rw [hN]; show T.slotsUsed + N ≤ _; omega
    · rw [hN]; exact hE _
  jvm_step X.here [hexec, hcode, hd]
  refine go (fun acts => ?_)
  have e37 : CN 37 = "java/lang/NegativeArraySizeException" := rfl
  rw [e37] at a1
  simpa [jvm, hsN] using a1
end XN2
