/-! THE RULES OF multianewarray, AND OF anewarray WITH A NEGATIVE LENGTH -/
section XM0
variable {p : Program} {l : Launch} {e : Env} {R : Room} {s : State} {m : MethodId} {args : Array Value} {below : List Frame} {meth : Method} {c : Code} {T : State} {locs : List Loc} {cells slots : Nat}
theorem anew_wpNeg {Q : Unit → Pre} {EE : CtlPost} {dd : Bool} {acts : List Action} {f : JFrame} {index : Nat} {comp cc : ClassId} {n : Int32} {rest : List Value} {kc : Class}
    (hs : s.topJava?.isSome) (hr : s.vm.classReady f.method.cls index comp) (hkc : s.vm.classes[comp]? = some kc)
    (hc : (s.vm.classes.findIdx? fun x => match x.kind with | .array component _ => component == comp | _ => false) = some cc)
    (hstack : f.stack = .int n :: rest) (hn : n < 0) :
    wp (anewarray.sem index) Q EE e dd acts (s.setTop f) ↔ wp (throwNew "java/lang/NegativeArraySizeException" (some (toString n)) : Sem Unit) Q EE e true acts (s.setTop { f with stack := rest }) := by
  simp only [anewarray.sem, wp_bind', W.resolveClassAt_ready (State.method?_setTop f hs) hr,
    W.arrayClassOf'_ready (s := s.setTop f) (show (s.setTop f).vm.classes[comp]? = some kc from hkc) (show ((s.setTop f).vm.classes.findIdx? _) = some cc from hc),
    W.popInt, State.topJava?_setTop' _ hs, Option.some.injEq, exists_eq_left', hstack, List.cons.injEq,
    Value.int.injEq, exists_cons_eq, State.setTop_setTop, W.ite, hn, if_true, W.mark]
  exact Iff.rfl
end XM0
section XM1
variable {e : Env} {s : State} {Q : Addr → Pre} {EE : CtlPost} {dd : Bool} {acts : List Action} {f : JFrame}
theorem multi_in {cI cx : ClassId} {kI : Class} {n : Int32} (hs : s.topJava?.isSome) (hk : s.vm.classes[cI]? = some kI) (hkind : kI.kind = .array cx .int) (hn : ¬ n < 0) (hlimit : ¬ n.toNatClampNeg > e.platform.arrayLengthLimit) (hheap : ¬ n.toNatClampNeg * componentBytes .int > e.platform.maxHeapBytes) (hslim : ¬ n.toNatClampNeg > e.platform.maxSlots)
    (h1 : s.heap.size < e.platform.maxCells) (h2 : s.slotsUsed + n.toNatClampNeg ≤ e.platform.maxSlots)
    (hQ : Q s.heap.size dd acts ((s.pushCell { cls := cI, slots := Array.replicate n.toNatClampNeg (.int 0), vm := .none }).setTop f)) :
    wp (multianewarray.make cI [n]) Q EE e dd acts (s.setTop f) := by
  have hfit : ∀ i v, (Array.replicate n.toNatClampNeg (Value.int 0))[i]? = some v → s.fitsSlot cI .none i v = true := by
    intro i v hv
    simp only [Array.getElem?_replicate] at hv
    split at hv
    · cases hv; simp [State.fitsSlot, State.slotType?, hk, hkind]; rfl
    · cases hv
  have hdef : allocActs (Array.replicate n.toNatClampNeg (Value.int 0)) s.heap.size acts = acts := by
    have hall : ((Array.replicate n.toNatClampNeg (Value.int 0)).all (·.isDefault)) = true := by
      rw [Array.all_replicate]; split <;> simp [Value.isDefault]
    unfold allocActs; rw [if_pos hall]
  simp only [multianewarray.make, wp_bind', W.ite, hn, if_false, wp_pure', W.theClass, State.vm_setTop, hk, hkind, Jvm.newArray, Jvm.arrayFits, W.ask, hlimit, hheap, hslim, W.alloc, W.stop, Option.some.injEq, exists_eq_left']
  simp only [State.heap_setTop, State.slotsUsed_setTop, State.fitsSlot_setTop, Array.size_replicate, defaultValue, hdef, State.pushCell_setTop]
  exact ⟨h1, h2, hfit, hQ⟩
end XM1
/-- the outer array, so many of its inner ones there -/
def mo (cA : ClassId) (n a : Nat) : Nat → Cell
  | 0 => { cls := cA, slots := Array.replicate n .null, vm := .none }
  | k + 1 => (mo cA n a k).setSlot k (.ref (a + 1 + k))
def mT (T : State) (cA cI : ClassId) (n w : Nat) : Nat → State
  | 0 => T.pushCell (mo cA n T.heap.size 0)
  | k + 1 => ((mT T cA cI n w k).pushCell { cls := cI, slots := Array.replicate w (.int 0), vm := .none }).setCell T.heap.size (mo cA n T.heap.size (k + 1))
theorem mo_sz (cA : ClassId) (n a : Nat) : ∀ k, (mo cA n a k).slots.size = n ∧ (mo cA n a k).cls = cA ∧ (mo cA n a k).vm = .none
  | 0 => ⟨Array.size_replicate .., rfl, rfl⟩
  | k + 1 => by
    obtain ⟨h1, h2, h3⟩ := mo_sz cA n a k
    refine ⟨?_, h2, h3⟩
    show ((mo cA n a k).setSlot k _).slots.size = n
    simp [Cell.setSlot, h1]
theorem mT_at (T : State) (cA cI : ClassId) (n w : Nat) : ∀ k, (mT T cA cI n w k).heap.size = T.heap.size + 1 + k ∧ (mT T cA cI n w k).heap[T.heap.size]? = some (mo cA n T.heap.size k) ∧ (mT T cA cI n w k).slotsUsed = T.slotsUsed + n + k * w ∧ (mT T cA cI n w k).vm = T.vm ∧ (mT T cA cI n w k).topJava? = T.topJava?
  | 0 => by
    refine ⟨?_, ?_, ?_, rfl, rfl⟩
    · simp [mT, State.pushCell]
    · simp [mT, State.pushCell]
    · simp [mT, State.pushCell, mo]
  | k + 1 => by
    obtain ⟨h1, h2, h3, h4, h5⟩ := mT_at T cA cI n w k
    refine ⟨?_, ?_, ?_, h4, h5⟩
    · simp [mT, State.pushCell, size_setCell, h1]; omega
    · show ((((mT T cA cI n w k).pushCell _).setCell T.heap.size _).heap)[T.heap.size]? = _
      refine heapAt_setCell_self _ ?_
      show T.heap.size < (((mT T cA cI n w k).pushCell _).heap).size
      simp [State.pushCell, h1]; omega
    · show (((mT T cA cI n w k).pushCell _).setCell T.heap.size _).slotsUsed = _
      simp [State.pushCell, State.setCell, h3, Nat.succ_mul]; omega
section XM2
variable {e : Env} {T : State} {EE : CtlPost} {f : JFrame}
theorem multi_loop {Q : PUnit → Pre} {cA cI cx : ClassId} {kA kI : Class} {n : Nat} {w : Int32} (hs : T.topJava?.isSome) (hkA : T.vm.classes[cA]? = some kA) (hkindA : kA.kind = .array cI (.array .int)) (hkI : T.vm.classes[cI]? = some kI) (hkindI : kI.kind = .array cx .int) (hw : ¬ w < 0) (hlimit : ¬ w.toNatClampNeg > e.platform.arrayLengthLimit) (hheap : ¬ w.toNatClampNeg * componentBytes .int > e.platform.maxHeapBytes) (hslim : ¬ w.toNatClampNeg > e.platform.maxSlots)
    (h1 : T.heap.size + 1 + n ≤ e.platform.maxCells) (h2 : T.slotsUsed + n + n * w.toNatClampNeg ≤ e.platform.maxSlots)
    (hQ : ∀ dd acts, Q PUnit.unit dd acts ((mT T cA cI n w.toNatClampNeg n).setTop f)) : ∀ m i dd acts, i + m = n →
    wp (forIn (List.range' i m) PUnit.unit (fun i (_ : PUnit) => (do
      let r ← multianewarray.make cI [w]
      writeLoc T.heap.size i (Value.ref r)
      Pure.pure (ForInStep.yield PUnit.unit) : Sem (ForInStep PUnit)))) Q EE e dd acts ((mT T cA cI n w.toNatClampNeg i).setTop f) := by
  intro m
  induction m with
  | zero =>
    intro i dd acts hi
    have hi : i = n := hi
    subst hi
    exact hQ dd acts
  | succ m ih =>
    intro i dd acts hi
    obtain ⟨t1, t2, t3, t4, t5⟩ := mT_at T cA cI n w.toNatClampNeg i
    obtain ⟨o1, o2, o3⟩ := mo_sz cA n T.heap.size i
    have hmul : (i + 1) * w.toNatClampNeg ≤ n * w.toNatClampNeg := Nat.mul_le_mul_right _ (by omega)
    rw [Nat.succ_mul] at hmul
    rw [List.range'_succ, List.forIn_cons]
    simp only [wp_bind']
    refine multi_in (s := mT T cA cI n w.toNatClampNeg i) (by rw [t5]; exact hs) (by rw [t4]; exact hkI) hkindI hw hlimit hheap hslim (by rw [t1]; omega) (by rw [t3]; omega) ?_
    rw [wp_bind', W.writeLoc]
    have hlt : T.heap.size < (mT T cA cI n w.toNatClampNeg i).heap.size := by omega
    have hcell : (((mT T cA cI n w.toNatClampNeg i).pushCell { cls := cI, slots := Array.replicate w.toNatClampNeg (.int 0), vm := .none }).setTop f).heap[T.heap.size]? = some (mo cA n T.heap.size i) := by
      rw [State.heap_setTop]
      show ((mT T cA cI n w.toNatClampNeg i).heap.push _)[T.heap.size]? = _
      rw [Array.getElem?_push, if_neg (Nat.ne_of_lt hlt)]
      exact t2
    refine ⟨mo cA n T.heap.size i, hcell, (by rw [o3]; intro z; cases z), (by rw [o1]; omega), ?_, ?_⟩
    · rw [State.fitsSlot_setTop, o2, o3]
      have hv : ((mT T cA cI n w.toNatClampNeg i).pushCell { cls := cI, slots := Array.replicate w.toNatClampNeg (.int 0), vm := .none }).vm = T.vm := t4
      simp [State.fitsSlot, State.slotType?, hv, t4, hkA, hkindA]
      rfl
    · have := ih (i + 1) true (writeActs ⟨T.heap.size, i⟩ .plain (.ref (mT T cA cI n w.toNatClampNeg i).heap.size) acts) (by omega)
      rw [t1]
      rw [t1] at this
      exact this
theorem multi_out {Q : Addr → Pre} {dd : Bool} {acts : List Action} {cA cI cx : ClassId} {kA kI : Class} {n w : Int32} (hs : T.topJava?.isSome) (hkA : T.vm.classes[cA]? = some kA) (hkindA : kA.kind = .array cI (.array .int)) (hkI : T.vm.classes[cI]? = some kI) (hkindI : kI.kind = .array cx .int) (hn : ¬ n < 0) (hw : ¬ w < 0) (hlimit : ¬ n.toNatClampNeg > e.platform.arrayLengthLimit) (hheap : ¬ n.toNatClampNeg * componentBytes (.array .int) > e.platform.maxHeapBytes) (hlimit2 : ¬ w.toNatClampNeg > e.platform.arrayLengthLimit) (hheap2 : ¬ w.toNatClampNeg * componentBytes .int > e.platform.maxHeapBytes) (hslim2 : ¬ w.toNatClampNeg > e.platform.maxSlots)
    (h1 : T.heap.size + 1 + n.toNatClampNeg ≤ e.platform.maxCells) (h2 : T.slotsUsed + n.toNatClampNeg + n.toNatClampNeg * w.toNatClampNeg ≤ e.platform.maxSlots)
    (hQ : ∀ dd acts, Q T.heap.size dd acts ((mT T cA cI n.toNatClampNeg w.toNatClampNeg n.toNatClampNeg).setTop f)) :
    wp (multianewarray.make cA [n, w]) Q EE e dd acts (T.setTop f) := by
  have hslim : ¬ n.toNatClampNeg > e.platform.maxSlots := by omega
  unfold multianewarray.make
  simp only [wp_bind', W.ite, hn, if_false, wp_pure', W.theClass, State.vm_setTop, hkA, hkindA, Jvm.newArray, Jvm.arrayFits, W.ask, hlimit, hheap, hslim, W.alloc, W.stop, Option.some.injEq, exists_eq_left', List.find?, hw, decide_false]
  simp only [State.heap_setTop, State.slotsUsed_setTop, State.fitsSlot_setTop, Array.size_replicate, State.pushCell_setTop]
  have hfit : ∀ i v, (Array.replicate n.toNatClampNeg Value.null)[i]? = some v → T.fitsSlot cA .none i v = true := by
    intro i v hv
    simp only [Array.getElem?_replicate] at hv
    split at hv
    · cases hv; simp [State.fitsSlot, State.slotType?, hkA, hkindA]; rfl
    · cases hv
  have key : ∀ dd acts, wp (forIn [:n.toNatClampNeg] PUnit.unit (fun i (_ : PUnit) => (do
      let r ← multianewarray.make cI [w]
      writeLoc T.heap.size i (Value.ref r)
      Pure.pure (ForInStep.yield PUnit.unit) : Sem (ForInStep PUnit)))) (fun _ => (Pure.pure T.heap.size : Sem Addr).wp Q EE e) EE e dd acts ((T.pushCell { cls := cA, slots := Array.replicate n.toNatClampNeg Value.null, vm := .none }).setTop f) := by
    intro dd acts
    have hsz : Std.Legacy.Range.size [:n.toNatClampNeg] = n.toNatClampNeg := by simp [Std.Legacy.Range.size]
    rw [Std.Legacy.Range.forIn_eq_forIn_range', hsz]
    exact multi_loop (Q := fun _ => (Pure.pure T.heap.size : Sem Addr).wp Q EE e) (f := f) hs hkA hkindA hkI hkindI hw hlimit2 hheap2 hslim2 h1 h2 (fun dd acts => hQ dd acts) n.toNatClampNeg 0 dd acts (by omega)
  refine ⟨by omega, by omega, hfit, ?_⟩
  split
  · exact key _ _
  · exact key _ _
end XM2
section XM3
variable {e : Env} {T : State} {EE : CtlPost} {f : JFrame} {Q : Unit → Pre} {dd : Bool} {acts : List Action}
theorem multi_cold {index dims cc : Nat} {vm' : Vm} (hs : T.topJava?.isSome) (hg : (Jvm.resolveClass f.method.cls index).Gives e.toSetting T.vm (.ok cc) vm') (hr : vm'.classReady f.method.cls index cc) (hsz : vm'.classes.size ≤ T.vm.classes.size) :
    wp (multianewarray.sem index dims) Q EE e dd acts (T.setTop f) ↔ wp (multianewarray.sem index dims) Q EE e dd acts ((T.setVm vm').setTop f) := by
  simp only [multianewarray.sem, wp_bind']
  exact W.resolveClassAt_transfer (s := T.setTop f) (State.method?_setTop f hs) hg hr
theorem multi_sem {index : Nat} {cA : ClassId} {n w : Int32} {rest : List Value} (hs : T.topJava?.isSome) (hr : T.vm.classReady f.method.cls index cA) (hstack : f.stack = .int w :: .int n :: rest)
    (k : ∀ dd acts, wp (multianewarray.make cA [n, w]) (fun a => wp (do mark "op.multianewarray"; pushRef a) Q EE e) EE e dd acts (T.setTop { f with stack := rest })) : wp (multianewarray.sem index 2) Q EE e dd acts (T.setTop f) := by
  simp only [multianewarray.sem, wp_bind', W.resolveClassAt_ready (State.method?_setTop f hs) hr]
  have hp := popN_top (E := EE) (e := e) (d := dd) (acts := acts) (s := T) (f := f) (Q := fun l => wp (do
      let counts ← l.mapM (fun | .int n => Pure.pure n | _ => illTyped "multianewarray: an int count was expected")
      let arrayref ← multianewarray.make cA counts
      mark "op.multianewarray"
      pushRef arrayref) Q EE e) hs (args := [.int n, .int w]) (rest := rest) hstack
  refine hp.mpr ?_
  show wp (do
      let arrayref ← multianewarray.make cA [n, w]
      mark "op.multianewarray"
      pushRef arrayref) Q EE e _ acts _
  rw [wp_bind']
  exact k _ _
end XM3
section XM4
variable {p : Program} {l : Launch} {e : Env} {R : Room} {s : State} {m : MethodId} {args : Array Value} {below : List Frame} {meth : Method} {c : Code} {T : State} {locs : List Loc} {cells slots : Nat}
theorem mT_stand (X : Stand p l e R s m args below meth c T locs cells slots) (cA cI : ClassId) (n w : Nat) : ∀ k, Stand p l e R s m args below meth c (mT T cA cI n w k) (locs ++ (List.range k).map (fun i => (⟨T.heap.size, i⟩ : Loc))) (cells + 1 + k) (slots + n + k * w)
  | 0 => by
    have h := X.pushed (mo cA n T.heap.size 0)
    rw [(mo_sz cA n T.heap.size 0).1] at h
    simpa [mT] using h
  | k + 1 => by
    obtain ⟨t1, t2, t3, t4, t5⟩ := mT_at T cA cI n w k
    have h := (mT_stand X cA cI n w k).pushed { cls := cI, slots := Array.replicate w (.int 0), vm := .none }
    have hcell : ((mT T cA cI n w k).pushCell { cls := cI, slots := Array.replicate w (.int 0), vm := .none }).heap[T.heap.size]? = some (mo cA n T.heap.size k) := by
      show ((mT T cA cI n w k).heap.push _)[T.heap.size]? = _
      rw [Array.getElem?_push, if_neg (by omega)]
      exact t2
    have h2 := h.stored hcell k (.ref (T.heap.size + 1 + k))
    have e1 : locs ++ (List.range (k + 1)).map (fun i => (⟨T.heap.size, i⟩ : Loc)) = locs ++ (List.range k).map (fun i => (⟨T.heap.size, i⟩ : Loc)) ++ [⟨T.heap.size, k⟩] := by
      rw [List.range_succ, List.map_append, List.append_assoc]; rfl
    have e2 : slots + n + (k + 1) * w = slots + n + k * w + w := by rw [Nat.succ_mul]; omega
    have e3 : cells + 1 + (k + 1) = cells + 1 + k + 1 := by omega
    rw [e1, e2, e3]
    simpa [mT, mo] using h2
end XM4
/-- the clean heap behind it -/
def hmc (a : Nat) : Nat → Nat → Value
  | 0 => fun _ => .null
  | k + 1 => vup (hmc a k) k (.ref (a + 1 + k))
def hmu (h : CH) (n w : Nat) : Nat → CH
  | 0 => hpush h (.inr 11, n, fun _ => .null) n
  | k + 1 => hset (hpush (hmu h n w k) (.inr 0, w, fun _ => .int 0) w) h.1 (.inr 11, n, hmc h.1 (k + 1))
theorem hmu_sz (h : CH) (n w : Nat) : ∀ k, (hmu h n w k).1 = h.1 + 1 + k ∧ (hmu h n w k).2.1 = h.2.1 + n + k * w
  | 0 => ⟨rfl, by show h.2.1 + n = _; omega⟩
  | k + 1 => by
    obtain ⟨h1, h2⟩ := hmu_sz h n w k
    refine ⟨?_, ?_⟩
    · show (hmu h n w k).1 + 1 = _
      omega
    · show (hmu h n w k).2.1 + w = _
      rw [h2, Nat.succ_mul]; omega
theorem hmu_HR {E : EN} {s T : State} {h : CH} {n w : Nat} (K : KX E s) (hR : HR E s h T.heap) (h1 : h.1 + 1 + n ≤ eLc E) (h2 : h.2.1 + n + n * w ≤ eLs E) : ∀ k, k ≤ n → HR E s (hmu h n w k) (mT T (eA E 11) (eA E 0) n w k).heap ∧ CR E s h.1 (mo (eA E 11) n T.heap.size k) (.inr 11, n, hmc h.1 k)
  | 0, _ => by
    have e1 : mo (eA E 11) n T.heap.size 0 = arrV (eA E 11) n (fun _ => .null) := arrV_new _ _ _
    have hz := hR.1.1
    have hcr : CR E s h.1 (mo (eA E 11) n T.heap.size 0) (.inr 11, n, hmc h.1 0) := by
      rw [e1]
      exact arr_fresh K (by decide) _ _ _
    refine ⟨hR.push (H1 := (T.pushCell (mo (eA E 11) n T.heap.size 0)).heap) (cell := mo (eA E 11) n T.heap.size 0) (by omega) (by omega) ?_ ?_ ?_ hcr, hcr⟩
    · rw [← hz]; simp [State.pushCell]
    · simp [State.pushCell, hz]
    · intro q hq
      rw [← hz] at hq
      simp [State.pushCell, Array.getElem?_push, Nat.ne_of_lt hq]
  | k + 1, hk => by
    obtain ⟨ih1, ih2⟩ := hmu_HR K hR h1 h2 k (by omega)
    obtain ⟨t1, t2, t3, t4, t5⟩ := mT_at T (eA E 11) (eA E 0) n w k
    obtain ⟨z1, z2⟩ := hmu_sz h n w k
    have hz := hR.1.1
    have hmul : (k + 1) * w ≤ n * w := Nat.mul_le_mul_right _ hk
    rw [Nat.succ_mul] at hmul
    have e1 : ({ cls := eA E 0, slots := Array.replicate w (.int 0), vm := .none } : Cell) = arrV (eA E 0) w (fun _ => .int 0) := arrV_new _ _ _
    have hcr0 : CR E s (hmu h n w k).1 (arrV (eA E 0) w (fun _ => .int 0)) (.inr 0, w, fun _ => .int 0) := arr_fresh K (by decide) _ _ _
    have hp : HR E s (hpush (hmu h n w k) (.inr 0, w, fun _ => .int 0) w) ((mT T (eA E 11) (eA E 0) n w k).pushCell { cls := eA E 0, slots := Array.replicate w (.int 0), vm := .none }).heap := by
      refine ih1.push (cell := arrV (eA E 0) w (fun _ => .int 0)) (by omega) (by omega) ?_ ?_ ?_ hcr0
      · rw [← ih1.1.1, e1]; simp [State.pushCell]
      · simp [State.pushCell, ih1.1.1]
      · intro q hq
        rw [← ih1.1.1] at hq
        simp [State.pushCell, Array.getElem?_push, Nat.ne_of_lt hq]
    have hcr : CR E s h.1 (mo (eA E 11) n T.heap.size (k + 1)) (.inr 11, n, hmc h.1 (k + 1)) := by
      have := ih2.store (j := k) (v := .ref (h.1 + 1 + k)) (by omega)
      rw [← hz] at this ⊢
      exact this
    refine ⟨?_, hcr⟩
    refine hp.set (H1 := (mT T (eA E 11) (eA E 0) n w (k + 1)).heap) (cell := mo (eA E 11) n T.heap.size (k + 1)) hR.1.2.1 ?_ ?_ ?_ hcr
    · have := (mT_at T (eA E 11) (eA E 0) n w (k + 1)).2.1
      rw [hz] at this
      rw [hz]
      exact this
    · show (((mT T (eA E 11) (eA E 0) n w k).pushCell _).setCell T.heap.size _).heap.size = _
      rw [size_setCell]
    · intro q hq
      show (((mT T (eA E 11) (eA E 0) n w k).pushCell _).setCell T.heap.size _).heap[q]? = _
      rw [heapAt_setCell_ne _ (by rw [hz]; exact Ne.symm hq)]
section XM5
variable {l : Launch} {E : EN} {d : Nat} {M : MR} {pc : Nat} {lo : LO} {st : List Value} {h : CH} {Q : Outcome → CH → Prop}
theorem x_multi {idx N Wd : Nat} {n w : Int32} (hd : decode (mB M) pc = .ok (.multianewarray idx 2, 4)) (hq : Cond.classLink (mY M).cls idx "[[I" ∈ lw_all) (hn : ¬ n < 0) (hN : n.toNatClampNeg = N) (hw : ¬ w < 0) (hW : w.toNatClampNeg = Wd) (hb : N ≤ 1000) (hb2 : Wd ≤ 1000) (h1 : h.1 + 1 + N ≤ eLc E) (h2 : h.2.1 + N + N * Wd + Wd ≤ eLs E)
    (kk : Ex l E d M (pc + 4) lo (.ref h.1 :: st) (hmu h N Wd N) Q) : Ex l E d M pc lo (.int w :: .int n :: st) h Q := by
  intro p e R s m args below meth c u C ls H locs cells slots hL hC T hT X
  obtain ⟨hR, hlo, hcs, hss⟩ := hC
  have hexec := C.1
  have hcode := C.2.1
  have hown := C.2.2.2.2.2.1
  have K := C.2.2.2.2.2.2.2.2.1
  obtain ⟨-, -, hrc, hrs, -⟩ := C.2.2.2.2.2.2.2.2.2
  have hpl : e.platform.magicAccessors = ({} : Platform).magicAccessors := by rw [X.admits.platform]
  obtain ⟨kA, comp, g1, g2, g3, -, g5⟩ := K.2.2.2.2.1 11 (by decide)
  obtain ⟨kI, compI, i1, i2, i3, -⟩ := K.2.2.2.2.1 0 (by decide)
  have hcomp := g5 .int rfl
  have e0 : (AT 11).toString = "[" ++ (AT 0).toString := by decide +kernel
  rw [e0] at hcomp
  cases hcomp.symm.trans i1
  have e9 : "[" ++ (AT 11).toString = "[[I" := by decide +kernel
  rw [e9] at g1
  obtain ⟨cc', hfcc, hcl⟩ := Cond.classLink_spec (args := args) hown (K.word hq) e.platform hpl
  cases hfcc.symm.trans g1
  obtain ⟨hg₁, hwarm₁, hready₁⟩ := State.classEntry (e := e) X.warmed hcl
  generalize T.vm.noted m.cls idx (.cls (eA E 11)) = vm₁ at hg₁ hwarm₁ hready₁
  have hal : s.vm.Alike vm₁ := hwarm₁.alike
  obtain ⟨kA₁, hkA₁, heA⟩ := hal.2.2 _ _ g2
  obtain ⟨kI₁, hkI₁, heI⟩ := hal.2.2 _ _ i2
  have hkindA₁ : kA₁.kind = .array (eA E 0) (.array .int) := by rw [heA]; exact g3
  have hkindI₁ : kI₁.kind = .array compI .int := by rw [heI]; exact i3
  have X₁ := X.noted hwarm₁
  have hTh : (T.setVm vm₁).heap = H := hT
  have XN := mT_stand X₁ (eA E 11) (eA E 0) N Wd N
  have hRT : HR E s h (T.setVm vm₁).heap := by rw [hTh]; exact hR
  have hHR := (hmu_HR (T := T.setVm vm₁) (n := N) (w := Wd) K hRT h1 (by omega) N (Nat.le_refl _)).1
  obtain ⟨z1, z2⟩ := hmu_sz h N Wd N
  have hsz : (T.setVm vm₁).heap.size = h.1 := by rw [hTh]; exact hR.1.1
  have hlo2 : ∀ q ∈ locs ++ (List.range N).map (fun i => (⟨(T.setVm vm₁).heap.size, i⟩ : Loc)), ez E ≤ q.base := fun q hq => by
    rcases List.mem_append.mp hq with hq | hq
    · exact hlo q hq
    · obtain ⟨i, hi, rfl⟩ := List.mem_map.mp hq
      show ez E ≤ (T.setVm vm₁).heap.size
      rw [hsz]
      exact hR.1.2.1
  obtain ⟨t, a1, b1⟩ := kk p e R s m args below meth c u C ls (mT (T.setVm vm₁) (eA E 11) (eA E 0) N Wd N).heap _ _ _ hL ⟨hHR, hlo2, by rw [z1]; omega, by rw [z2]; omega⟩ _ rfl XN
  · refine ⟨t, ?_, b1⟩
    obtain ⟨hr1, hr2⟩ := X.roomAbove (a := 1 + N) (b := N + N * Wd + Wd) (by omega) (by omega)
    have hlim := Launch.admits_arrayLengthLimit X.admits
    have hmh := Launch.admits_maxHeapBytes X.admits
    have hs₁ : (T.setVm vm₁).topJava?.isSome := X.here.top
    have hsN : (mT (T.setVm vm₁) (eA E 11) (eA E 0) N Wd N).topJava?.isSome := by rw [(mT_at (T.setVm vm₁) (eA E 11) (eA E 0) N Wd N).2.2.2.2]; exact hs₁
    have go : ∀ {QQ : Unit → Pre} {EE : CtlPost} {dd : Bool} {acts : List Action}, (∀ dd acts, QQ () dd acts ((mT (T.setVm vm₁) (eA E 11) (eA E 0) N Wd N).setTop { F0 m pc ls (.int w :: .int n :: st) with stack := .ref h.1 :: st })) → wp (multianewarray.sem idx 2) QQ EE e dd acts (T.setTop (F0 m pc ls (.int w :: .int n :: st))) := by
      intro QQ EE dd acts hQQ
      refine (multi_cold (T := T) (f := F0 m pc ls (.int w :: .int n :: st)) X.here.top hg₁ hready₁ (by no_record)).mpr ?_
      refine multi_sem (T := T.setVm vm₁) (f := F0 m pc ls (.int w :: .int n :: st)) hs₁ hready₁ rfl (fun dd acts => ?_)
      refine multi_out (T := T.setVm vm₁) hs₁ hkA₁ hkindA₁ hkI₁ hkindI₁ hn hw ?_ ?_ ?_ ?_ ?_ ?_ ?_ (fun dd acts => ?_)
      · rw [hlim, hN]; omega
      · rw [hmh, hN]; show ¬ N * 4 > 536870912; omega
      · rw [hlim, hW]; omega
      · rw [hmh, hW]; show ¬ Wd * 4 > 536870912; omega
      · rw [hW]; omega
      · rw [hN]; show T.heap.size + 1 + N ≤ _; omega
      · rw [hN, hW]; show T.slotsUsed + N + N * Wd ≤ _; omega
      · rw [hN, hW, hsz]
        simp only [wp_bind', W.mark, W.pushRef, State.topJava?_setTop' _ hsN, Option.some.injEq, exists_eq_left', State.setTop_setTop]
        exact hQQ _ _
    jvm_step X.here [hexec, hcode, hd]
    refine go (fun dd acts => ?_)
    intro acts2
    simpa [jvm, hsN] using a1
end XM5
