/-! EXCEPTIONS: a throw, a handler found (its class resolved then, if it wasn't), the way out of the method -/
/-- what the search for a handler gives, and the tables behind it -/
def FindsV (e : Env) (s : State) (f : JFrame) (a : Addr) (hd : Handler) (vm' : Vm) : Prop :=
  ∀ (Q : Handler → Pre) (E : CtlPost) (d : Bool) (acts : List Action), wp (findHandler f a) Q E e d acts s ↔ Q hd d acts (s.setVm vm')
theorem findGo_cold {E : CtlPost} {e : Env} {d : Bool} {acts : List Action} {s : State} {f : JFrame} {a : Addr} {Q : Handler → Pre} {x : ExceptionTableEntry} {t : List ExceptionTableEntry} {c : ClassId} {cell : Cell} {vm' : Vm} (hx : covers x f.pc = true) (h0 : x.catchType ≠ 0)
    (hg : (Jvm.resolveClass f.method.cls x.catchType).Gives e.toSetting s.vm (.ok c) vm') (hsz : vm'.classes.size ≤ s.vm.classes.size) (hcell : s.heap[a]? = some cell) (hobj : ∀ k, cell.vm ≠ .statics k)
    (hk : ∃ k, vm'.classes[cell.cls]? = some k) (hc : ∃ k, vm'.classes[c]? = some k) :
    wp (findHandler.go f a (x :: t)) Q E e d acts s ↔ if vm'.assignable cell.cls c = true then Q (.found x.handlerPc) d acts (s.setVm vm') else wp (findHandler.go f a t) Q E e d acts (s.setVm vm') := by
  simp only [covers] at hx
  obtain ⟨ha, ht⟩ := hg.op (op := VmOp.resolveClass f.method.cls x.catchType) rfl
  cases hfit : vm'.assignable cell.cls c <;>
    simp [findHandler.go, hx, h0, ha, ht, hsz, hcell, hobj, hk, hc, hfit, VmOp.dirties, VmOp.acts]
theorem stepThrowing_catchV {e : Env} {s : State} {a : Addr} {f : JFrame} {r : List Frame} {pc : Nat} {vm' : Vm} (hfind : FindsV e s f a (.found pc) vm') :
    (stepThrowing e s a (.java f :: r)).Is ((s.setVm vm').setFrames (.java { f with pc := pc, stack := [.ref a] } :: r)) [] := by
  simp only [stepThrowing, searchFrame, vmDo]
  generalize hr : Sem.go _ e false [] s = res
  obtain ⟨as, rfl, ha⟩ := Sem.eq_ok_of hr (a := Handler.found pc) (s' := s.setVm vm') (acts' := []) (by simp [hfind _ _ _ _])
  exact ⟨rfl, ha⟩
theorem stepThrowing_leaveV {e : Env} {s : State} {a : Addr} {f : JFrame} {r : List Frame} {meth : Method} {vm' : Vm}
    (hm : vm'.method? f.method = some meth) (hl : meth.locks = false) (hlocked : f.locked = none) (hentered : f.entered = []) (hfind : FindsV e s f a .none vm') :
    (stepThrowing e s a (.java f :: r)).Is ((s.setVm vm').setFrames (.throwing a :: r)) [] := by
  simp only [stepThrowing, searchFrame, vmDo]
  generalize hr : Sem.go _ e false [] s = res
  obtain ⟨as, rfl, ha⟩ := Sem.eq_ok_of hr (a := Handler.none) (s' := s.setVm vm') (acts' := [])
    (by cases hp : e.platform.frameOwnsMonitors <;> simp [hfind _ _ _ _, hm, hl, hlocked, hentered, hp, leaveIfLocked])
  exact ⟨rfl, ha⟩
theorem Steps.caughtV {tb : Tables} {e : Env} {s target : State} {g : JFrame} {c : Code} {below : List Frame} {a : Addr} (h : At s g.method c below) {pc : Nat} {vm' : Vm} (hfind : FindsV e ((s.setTop g).pushFrame (.throwing a)) g a (.found pc) vm')
    (hrest : Steps tb e below ((s.setVm vm').setTop { g with pc := pc, stack := [.ref a] }) target) :
    Steps tb e below ((s.setTop g).pushFrame (.throwing a)) target := by
  obtain ⟨hgo, hw⟩ := h.throwing a
  refine Steps.head hgo hw ?_
  rw [stepThread_throwing (frames_entered h.top _), (stepThrowing_catchV (s := (s.setTop g).pushFrame (.throwing a)) hfind).1]
  obtain ⟨g₀, hg⟩ := Option.isSome_iff_exists.mp h.top
  obtain ⟨r, hr⟩ := State.topJava?_eq_some.mp hg
  have hr' : (s.setVm vm').frames = .java g₀ :: r := hr
  rw [State.setTop_of_frames _ hr'] at hrest
  have e1 : (((s.setTop g).pushFrame (.throwing a)).setVm vm').setFrames (.java { g with pc := pc, stack := [.ref a] } :: s.frames.tail) = (s.setVm vm').setFrames (.java { g with pc := pc, stack := [.ref a] } :: r) := by
    rw [State.pushFrame, State.setTop_of_frames _ hr, State.setFrames_setFrames, State.setFrames_setVm, State.setFrames_setFrames, hr]
    rfl
  rw [e1]
  exact hrest
theorem Steps.thrownOutV {tb : Tables} {e : Env} {s target : State} {g : JFrame} {c : Code} {below : List Frame} {a : Addr} (h : At s g.method c below) {meth : Method} {vm' : Vm} (hm : vm'.method? g.method = some meth) (hl : meth.locks = false)
    (hlocked : g.locked = none) (hentered : g.entered = []) (hfind : FindsV e ((s.setTop g).pushFrame (.throwing a)) g a .none vm')
    (hrest : Steps tb e below ((s.setVm vm').setFrames (.throwing a :: s.frames.tail)) target) :
    Steps tb e below ((s.setTop g).pushFrame (.throwing a)) target := by
  obtain ⟨hgo, hw⟩ := h.throwing a
  refine Steps.head hgo hw ?_
  rw [stepThread_throwing (frames_entered h.top _), (stepThrowing_leaveV (s := (s.setTop g).pushFrame (.throwing a)) (meth := meth) hm hl hlocked hentered hfind).1]
  obtain ⟨g₀, hg⟩ := Option.isSome_iff_exists.mp h.top
  obtain ⟨r, hr⟩ := State.topJava?_eq_some.mp hg
  have e1 : (((s.setTop g).pushFrame (.throwing a)).setVm vm').setFrames (.throwing a :: s.frames.tail) = (s.setVm vm').setFrames (.throwing a :: s.frames.tail) := by
    rw [State.pushFrame, State.setTop_of_frames _ hr, State.setFrames_setFrames, State.setFrames_setVm, State.setFrames_setFrames]
  rw [e1]
  exact hrest
/-- where an exception of class k, thrown at pc, is caught -/
def hsr (own : String) (pc k : Nat) : List (Nat × Nat × Nat × Nat) → Option Nat → Prop
  | [], res => res = none
  | (s, e, hp, ct) :: t, res => if s ≤ pc ∧ pc < e then ct ≠ 0 ∧ ∃ nm, Cond.classLink own ct nm ∈ lw_all ∧ ((CKy k nm ∧ res = some hp) ∨ ((CN k, nm) ∈ NCL ∧ hsr own pc k t res)) else hsr own pc k t res
def hdl : Option Nat → Handler
  | some p => .found p
  | none => .none
theorem hsr_go {E0 : EN} {s : State} (K : KX E0 s) {e : Env} (hpl : e.platform.magicAccessors = ({} : Platform).magicAccessors) {own : String} {f : JFrame} (hown : s.vm.findClass own = some f.method.cls) {a k : Nat} (hk : k < NK) {cell : Cell} (hcls : cell.cls = eC E0 k) (hobj : ∀ k, cell.vm ≠ .statics k) :
    ∀ (tbl : List ExceptionTableEntry) (res : Option Nat), hsr own f.pc k (tbl.map fun x => (x.startPc, x.endPc, x.handlerPc, x.catchType)) res → ∀ S : State, S.heap[a]? = some cell → s.WarmedH S.vm →
      ∃ vm', s.WarmedH vm' ∧ ∀ (Q : Handler → Pre) (E : CtlPost) (d : Bool) (acts : List Action), wp (findHandler.go f a tbl) Q E e d acts S ↔ Q (hdl res) d acts (S.setVm vm') := by
  intro tbl
  induction tbl with
  | nil =>
    intro res hr S hS hW
    have hr : res = none := hr
    subst hr
    exact ⟨S.vm, hW, fun Q E d acts => W.findHandler_go_nil⟩
  | cons x t ih =>
    intro res hr S hS hW
    simp only [List.map_cons, hsr] at hr
    by_cases hcv : x.startPc ≤ f.pc ∧ f.pc < x.endPc
    · rw [if_pos hcv] at hr
      obtain ⟨h0, nm, hl, hr⟩ := hr
      have hx : covers x f.pc = true := by simp [covers, hcv.1, hcv.2]
      obtain ⟨c', hc', hcl⟩ := Cond.classLink_spec hown (K.word (args := #[]) hl) e.platform hpl
      obtain ⟨dk, _, _, kt, hd, _, _, _, _, hkt, _, hopen⟩ := hcl.here
      have hcl₀ := hW.classLinks hcl
      have hW' : s.WarmedH (S.vm.noted f.method.cls x.catchType (.cls c')) := hW.noted hd hopen (State.rightAt_cls hcl)
      obtain ⟨kt', hkt', -⟩ := hW'.alike.2.2 _ _ hkt
      obtain ⟨hfc, kC, hkC, -⟩ := K.2.2.1 k hk
      obtain ⟨ks', hks', -⟩ := hW'.alike.2.2 _ _ hkC
      have hsz : (S.vm.noted f.method.cls x.catchType (.cls c')).classes.size ≤ S.vm.classes.size := by simp [Vm.noted]
      have step : ∀ (Q : Handler → Pre) (E : CtlPost) (d : Bool) (acts : List Action), wp (findHandler.go f a (x :: t)) Q E e d acts S ↔ if (S.vm.noted f.method.cls x.catchType (.cls c')).assignable cell.cls c' = true then Q (.found x.handlerPc) d acts (S.setVm (S.vm.noted f.method.cls x.catchType (.cls c'))) else wp (findHandler.go f a t) Q E e d acts (S.setVm (S.vm.noted f.method.cls x.catchType (.cls c'))) :=
        fun Q E d acts => findGo_cold hx h0 (resolveClass_links e.toSetting hcl₀) hsz hS hobj ⟨ks', by rw [hcls]; exact hks'⟩ ⟨kt', hkt'⟩
      rcases hr with ⟨hy, hr⟩ | ⟨hn, hr⟩
      · subst hr
        obtain ⟨y, f2, f3⟩ := K.castY hk hy
        cases hc'.symm.trans f2
        refine ⟨_, hW', fun Q E d acts => (step Q E d acts).trans ?_⟩
        rw [hW'.alike.assignable, hcls, if_pos f3]
        rfl
      · obtain ⟨x1, y1, f1, f2, f3⟩ := K.2.2.2.2.2.1 _ hn
        cases hfc.symm.trans f1
        cases hc'.symm.trans f2
        obtain ⟨vm', hv1, hv2⟩ := ih res hr (S.setVm (S.vm.noted f.method.cls x.catchType (.cls c'))) hS hW'
        refine ⟨vm', hv1, fun Q E d acts => (step Q E d acts).trans ?_⟩
        rw [hW'.alike.assignable, hcls, if_neg (by rw [f3]; decide)]
        exact hv2 Q E d acts
    · rw [if_neg hcv] at hr
      have hx : covers x f.pc = false := by
        simp only [covers, Bool.and_eq_false_iff, decide_eq_false_iff_not]
        by_cases q : x.startPc ≤ f.pc
        · exact Or.inr (fun z => hcv ⟨q, z⟩)
        · exact Or.inl q
      obtain ⟨vm', hv1, hv2⟩ := ih res hr S hS hW
      exact ⟨vm', hv1, fun Q E d acts => (W.findHandler_go_skip hx).trans (hv2 Q E d acts)⟩
section XT
variable {l : Launch} {E : EN} {d : Nat} {M : MR} {pc : Nat} {lo : LO} {st : List Value} {h : CH} {Q : Outcome → CH → Prop}
theorem xt_finds {a k n : Nat} {f : Nat → Value} (ha : h.2.2 a = some (.inl k, n, f)) {res : Option Nat} (hr : hsr (mY M).cls pc k (mH M) res) {p : Program} {e : Env} {R : Room} {s : State} {m : MethodId} {args : Array Value} {below : List Frame} {meth : Method} {c : Code} {u : Nat} (C : Ctx l E d M p e R s m args meth c u) {ls : Array Slot} {H : Heap} {locs : List Loc} {cells slots : Nat} (hC : Cur E s u h H locs cells slots) {T : State} (hT : T.heap = H) (X : Stand p l e R s m args below meth c T locs cells slots) :
    ∃ vm', s.WarmedH vm' ∧ FindsV e ((T.setTop (F0 m pc ls st)).pushFrame (.throwing a)) (F0 m pc ls st) a (hdl res) vm' := by
  have K := C.2.2.2.2.2.2.2.2.1
  have hown := C.2.2.2.2.2.1
  obtain ⟨cell, hc1, hkN, hcl, hun, hstat, -, hfs⟩ := hC.1.2 a _ ha
  have hpl : e.platform.magicAccessors = ({} : Platform).magicAccessors := by rw [X.admits.platform]
  have htab := C.2.2.2.2.2.2.2.1
  rw [← htab] at hr
  have hvm : ((T.setTop (F0 m pc ls st)).pushFrame (.throwing a)).vm = T.vm := Stand.throwing_vm T _ a
  have hhp : ((T.setTop (F0 m pc ls st)).pushFrame (.throwing a)).heap = T.heap := Stand.throwing_heap T _ a
  obtain ⟨vm', h1, h2⟩ := hsr_go K hpl (f := F0 m pc ls st) hown hkN hcl (VmData.ne_statics_of hstat) c.exceptionTable.toList res hr ((T.setTop (F0 m pc ls st)).pushFrame (.throwing a)) (by rw [hhp, hT]; exact hc1) (by rw [hvm]; exact X.warmed)
  refine ⟨vm', h1, fun Q E d acts => ?_⟩
  rw [W.findHandler_eq (meth := meth) (code := c) (by rw [hvm]; exact X.method') X.code]
  exact h2 Q E d acts
/-- the exception is caught: on at the handler -/
theorem xt_catch {a k n hp : Nat} {f : Nat → Value} (ha : h.2.2 a = some (.inl k, n, f)) (hr : hsr (mY M).cls pc k (mH M) (some hp)) (kk : Ex l E d M hp lo [.ref a] h Q) : ExT l E d M pc lo st a h Q := by
  intro p e R s m args below meth c u C ls H locs cells slots hL hC T hT X
  obtain ⟨vm', h1, h2⟩ := xt_finds (st := st) (ls := ls) ha hr C hC hT X
  have X' := X.noted h1
  obtain ⟨t, a1, b1⟩ := kk p e R s m args below meth c u C ls H locs cells slots hL hC (T.setVm vm') hT X'
  exact ⟨t, Steps.caughtV (g := F0 m pc ls st) X.here h2 a1, b1⟩
/-- the exception isn't caught: the method ends by it -/
theorem xt_out {a k n : Nat} {f : Nat → Value} (ha : h.2.2 a = some (.inl k, n, f)) (hr : hsr (mY M).cls pc k (mH M) none) (hq : Q (.threw a) h) : ExT l E d M pc lo st a h Q := by
  intro p e R s m args below meth c u C ls H locs cells slots hL hC T hT X
  obtain ⟨vm', h1, h2⟩ := xt_finds (st := st) (ls := ls) ha hr C hC hT X
  have X' := X.noted h1
  obtain ⟨g₀, hfr⟩ := X'.frames_eq
  refine ⟨(T.setVm vm').setFrames (.throwing a :: below), ?_, MX.of hC hq hT X'.here.running (State.frames_setFrames _ (State.cur_lt_of_frames hfr)) (X'.ends _).1 (X'.ends _).2⟩
  refine Steps.thrownOutV (g := F0 m pc ls st) X.here (meth := meth) X'.method' C.2.2.2.2.1 rfl rfl h2 ?_
  rw [X.tail]
  exact Steps.refl _
/-- a throw -/
theorem x_athrow {a : Nat} (hd : decode (mB M) pc = .ok (.athrow, 1)) (kk : ExT l E d M pc lo st a h Q) : Ex l E d M pc lo (.ref a :: st) h Q := by
  intro p e R s m args below meth c u C ls H locs cells slots hL hC T hT X
  obtain ⟨t, a1, b1⟩ := kk p e R s m args below meth c u C ls H locs cells slots hL hC T hT X
  refine ⟨t, ?_, b1⟩
  have hexec := C.1
  have hb := C.2.1
  jvm_step X.here [hexec, hb, hd, athrow.wp_sem]
  exact a1
end XT
