/-! THE RULES OF CALLS -/
/-- a callee as the tables have it -/
def OKm (M' : MR) (n : Nat) : Prop := mW M' ∈ lw_all ∧ Cond.initialized (mY M').cls ∈ lw_all ∧ mL M' ≤ 29 ∧ ((mY M').cls ≠ "java/lang/invoke/MethodHandle" ∧ (mY M').cls ≠ "java/lang/invoke/VarHandle") ∧ (parseMethodDescriptor (mY M').desc).map (fun d => d.parameters.length) = some n
theorem len_of {y : MethodName} {n : Nat} (h : (parseMethodDescriptor y.desc).map (fun d => d.parameters.length) = some n) {argsL : List Value} (ha : argsL.length = n) : ∀ sig, parseMethodDescriptor y.desc = some sig → argsL.length = sig.parameters.length := by
  intro sig hs
  rw [hs] at h
  exact ha.trans (Option.some.inj h).symm
section XI
variable {l : Launch} {E : EN} {d : Nat} {M : MR} {pc : Nat} {lo : LO} {st : List Value} {h : CH} {Q Q' : Outcome → CH → Prop}
set_option maxRecDepth 100000 in
/-- what follows a call, whichever way it was made -/
theorem invEnd {M' : MR} {vs : List Value} {p : Program} {e : Env} {R : Room} {s : State} {m : MethodId} {args : Array Value} {below : List Frame} {meth : Method} {c : Code} {u : Nat} (C : Ctx l E (d + 1) M p e R s m args meth c u) {ls : Array Slot} {H : Heap} {locs : List Loc} {cells slots : Nat} (hL : LH ls lo) (hLm : lo.length = mL M) (hC : Cur E s u h H locs cells slots)
    {T : State} (hT : T.heap = H) {stk : List Value} {ig : Instr} (hdg : decode (mB M) pc = .ok (ig, 3)) (hw : (st.map fun v => v.category).sum ≤ 20) {vm₁ : Vm} (X₁ : Stand p l e R s m args below meth c (T.setVm vm₁) locs cells slots) {mk : MethodId} (hn : (T.setVm vm₁).methodNamed? (mY M') = some mk)
    (hstep : ∀ target, (∀ acts, Steps p.tables e below (doInvoke e ((T.setVm vm₁).setTop (F0 m pc ls st)) acts mk vs.toArray).1 target) → Steps p.tables e below (T.setTop (F0 m pc ls stk)) target)
    (hE : Ev l E d M' vs h Q') {n : Nat} (hM : OKm M' n) (kr : ∀ v h', Q' (.returned v) h' → Ex l E (d + 1) M (pc + 3) lo (v.toList ++ st) h' Q) (kt : ∀ a h', Q' (.threw a) h' → ExT l E (d + 1) M pc lo st a h' Q) :
    ∃ t, Steps p.tables e below (T.setTop (F0 m pc ls stk)) t ∧ MX E below Q s u t := by
  have K := C.2.2.2.2.2.2.2.2.1
  obtain ⟨r1, r2, r3, r4, -⟩ := C.2.2.2.2.2.2.2.2.2
  obtain ⟨o, h', B, L, k, n', hq, hC', X', g1, g2⟩ := callEv X₁ hE K (u := u) (by show Cur E s u h T.heap locs cells slots; rw [hT]; exact hC) (by omega) (by omega) r3 r4 (g := F0 m pc ls st) rfl (by rw [C.2.2.1, ← hLm]; exact hL.1) (by rw [C.2.1]; exact hdg) (by show 2 * 0 + (st.map fun v => v.category).sum ≤ 20; omega) hM.2.2.1 hn hM.1 hM.2.1
  cases o with
  | returned v =>
    have hs := g1 v rfl
    obtain ⟨t, a1, b1⟩ := kr v h' hq p e R s m args below meth c u C ls _ _ _ _ hL hC' B rfl X'
    exact ⟨t, hstep t fun acts => by rw [doInvoke_state]; exact hs.trans a1, b1⟩
  | threw a =>
    have hs := g2 a rfl
    obtain ⟨t, a1, b1⟩ := kt a h' hq p e R s m args below meth c u C ls _ _ _ _ hL hC' B rfl X'
    exact ⟨t, hstep t fun acts => by rw [doInvoke_state]; exact hs.trans a1, b1⟩
/-- a static call, own or of a nest mate -/
theorem x_invS {M' : MR} {idx n : Nat} {vs stk : List Value} (hd : decode (mB M) pc = .ok (.invokestatic idx, 3)) (hM : OKm M' n) (hst : Cond.static (mY M') ∈ lw_all) (hq : Cond.methodLink (mY M).cls idx (mY M') ∈ lw_all ∨ ∃ host, Cond.methodLinkNest (mY M).cls idx (mY M') host ∈ lw_tbl) (hv : vs.length = n) (hs : stk = vs.reverse ++ st) (hw : (st.map fun v => v.category).sum ≤ 20) (hLm : lo.length = mL M)
    (hE : Ev l E d M' vs h Q') (kr : ∀ v h', Q' (.returned v) h' → Ex l E (d + 1) M (pc + 3) lo (v.toList ++ st) h' Q) (kt : ∀ a h', Q' (.threw a) h' → ExT l E (d + 1) M pc lo st a h' Q) : Ex l E (d + 1) M pc lo stk h Q := by
  intro p e R s m args below meth c u C ls H locs cells slots hL hC T hT X
  have K := C.2.2.2.2.2.2.2.2.1
  have hown := C.2.2.2.2.2.1
  have hcode : (mW M').before args s = true := K.word hM.1
  obtain ⟨mk, hnamed⟩ : ∃ mk, s.methodNamed? (mY M') = some mk := by
    obtain ⟨y, b, L, r, hh⟩ := M'
    cases hh with
    | nil => exact Cond.code_named hcode
    | cons x xs =>
      obtain ⟨m', _, _, hn', _⟩ := Cond.codeWith_spec hcode
      exact ⟨m', hn'⟩
  obtain ⟨methM, cM, hmethM, -, -, -, -, -, -, hsigM⟩ := mW_spec hcode hnamed
  have hstatic : methM.isStatic = true := Cond.static_spec hnamed hmethM (K.word (args := args) hst)
  obtain ⟨kP, hkP, -⟩ := className_of_methodNamed hnamed
  have hinitP : kP.init = .initialized := Cond.initialized_spec (findClass_of_methodNamed hnamed) hkP (K.word (args := args) hM.2.1)
  have hlen := len_of hM.2.2.2.2 hv
  rcases hq with hq | ⟨host, hq⟩
  · obtain ⟨vm₁, X₁, hstep₁⟩ := X.invokestatic C.1 hown (K.word hq) hnamed hmethM hstatic hkP hinitP hM.2.2.2.1 (g := F0 m pc ls stk) rfl (argsL := vs) (rest := st) (hlen _ hsigM) hs (by rw [C.2.1]; exact hd)
    exact invEnd C hL hLm hC hT hd hw X₁ (X₁.named hnamed) hstep₁ hE hM kr kt
  · obtain ⟨vm₁, X₁, hstep₁⟩ := X.invokestaticNest C.1 hown (K.nest hq rfl rfl) hnamed hmethM hstatic hkP hinitP hM.2.2.2.1 (g := F0 m pc ls stk) rfl (argsL := vs) (rest := st) (hlen _ hsigM) hs (by rw [C.2.1]; exact hd)
    exact invEnd C hL hLm hC hT hd hw X₁ (X₁.named hnamed) hstep₁ hE hM kr kt
/-- a call through an object of class k: y is named, M' is run -/
theorem x_invV {M' : MR} {y : MethodName} {idx n b k nb : Nat} {f : Nat → Value} {vs stk : List Value} (hd : decode (mB M) pc = .ok (.invokevirtual idx, 3)) (hM : OKm M' n) (hin : Cond.instanceMethod (mY M') ∈ lw_all) (hq : Cond.methodLink (mY M).cls idx y ∈ lw_all) (hb : h.2.2 b = some (.inl k, nb, f)) (hsel : Cond.selects (CN k) y (mY M') ∈ lw_all)
    (hy : y = mY M' ∨ ((Cond.declares y ∈ lw_tbl ∨ Cond.instanceMethod y ∈ lw_all) ∧ (y.cls ≠ "java/lang/invoke/MethodHandle" ∧ y.cls ≠ "java/lang/invoke/VarHandle") ∧ (parseMethodDescriptor y.desc).map (fun d => d.parameters.length) = some n ∧ (∃ sup, Cond.superclass y.cls sup ∈ lw_all) ∧ (Cond.instanceMethod y ∈ lw_all → ∃ M0 : MR, mY M0 = y ∧ mW M0 ∈ lw_all)))
    (hv : vs.length = n) (hs : stk = vs.reverse ++ .ref b :: st) (hw : (st.map fun v => v.category).sum ≤ 20) (hLm : lo.length = mL M)
    (hE : Ev l E d M' (.ref b :: vs) h Q') (kr : ∀ v h', Q' (.returned v) h' → Ex l E (d + 1) M (pc + 3) lo (v.toList ++ st) h' Q) (kt : ∀ a h', Q' (.threw a) h' → ExT l E (d + 1) M pc lo st a h' Q) : Ex l E (d + 1) M pc lo stk h Q := by
  intro p e R s m args below meth c u C ls H locs cells slots hL hC T hT X
  have K := C.2.2.2.2.2.2.2.2.1
  have hown := C.2.2.2.2.2.1
  obtain ⟨cellB, hcB, hkN, hclB, -, hstB, -⟩ := hC.1.2 b _ hb
  have hfcB : s.vm.findClass (CN k) = some cellB.cls := by rw [hclB]; exact (K.2.2.1 k hkN).1
  obtain ⟨mk, methM, hnamed, hmethM, hstM, habM⟩ := Cond.instanceMethod_spec (K.word (args := args) hin)
  obtain ⟨methM', cM, hmethM', -, -, -, -, -, -, hsigM⟩ := mW_spec (K.word (args := args) hM.1) hnamed
  cases hmethM.symm.trans hmethM'
  obtain ⟨c2, r2, m2, q1, q2, q3, q4, kP, hkP, hkPi⟩ := Cond.selects_spec (K.word (args := args) hsel)
  cases hfcB.symm.trans q1
  cases hnamed.symm.trans q3
  have hcT : T.heap[b]? = some cellB := by rw [hT]; exact hcB
  have hns : ∀ z, cellB.vm ≠ .statics z := VmData.ne_statics_of hstB
  rcases hy with rfl | ⟨hdecl, hmh, hlen, ⟨sup, hsup⟩, hcd⟩
  · cases (State.methodFound?_of_named hnamed hM.2.2.2.1).symm.trans q2
    have hselP : selectMethod e.platform s.vm cellB.cls mk = .method mk := by rw [Launch.admits_selectMethod X.admits]; exact q4
    obtain ⟨vm₁, X₁, hstep₁⟩ := X.invokevirtual C.1 hown (K.word hq) hnamed hmethM hstM hkP hkPi hM.2.2.2.1 (a := b) (cell := cellB) hcT hns hselP hmethM habM hkP hkPi (g := F0 m pc ls stk) rfl (argsL := vs) (rest := st) (len_of hM.2.2.2.2 hv _ hsigM) hs (by rw [C.2.1]; exact hd)
    exact invEnd (vs := .ref b :: vs) C hL hLm hC hT hd hw X₁ (X₁.named hnamed) hstep₁ hE hM kr kt
  · have hdec : ∃ r0 r, s.methodNamed? y = some r0 ∧ s.vm.method? r0 = some r ∧ r.isStatic = false ∧ parseMethodDescriptor y.desc = some r.sig := by
      rcases hdecl with h1 | h1
      · exact Cond.declares_spec (K.nest (args := args) h1 rfl rfl)
      · obtain ⟨r0, r, i1, i2, i3, -⟩ := Cond.instanceMethod_spec (K.word (args := args) h1)
        obtain ⟨M0, e0, hM0⟩ := hcd h1
        obtain ⟨r', c', j1, -, -, -, -, -, -, j2⟩ := mW_spec (K.word (args := args) hM0) (by rw [e0]; exact i1)
        cases i2.symm.trans j1
        exact ⟨r0, r, i1, i2, i3, by rw [← e0]; exact j2⟩
    obtain ⟨r0, r, hn0, hrm, hstR, hsigR⟩ := hdec
    obtain ⟨-, kr0, -, -, hkr, -, -, -, -, hni⟩ := Cond.superclass_spec (findClass_of_methodNamed hn0) (K.word (args := args) hsup)
    cases (State.methodFound?_of_named hn0 hmh).symm.trans q2
    have hselP : selectMethod e.platform s.vm cellB.cls r2 = .method mk := by rw [Launch.admits_selectMethod X.admits]; exact q4
    obtain ⟨vm₁, X₁, hstep₁⟩ := X.invokevirtual C.1 hown (K.word hq) hn0 hrm hstR hkr hni hmh (a := b) (cell := cellB) hcT hns hselP hmethM habM hkP hkPi (g := F0 m pc ls stk) rfl (argsL := vs) (rest := st) (len_of hlen hv _ hsigR) hs (by rw [C.2.1]; exact hd)
    exact invEnd (vs := .ref b :: vs) C hL hLm hC hT hd hw X₁ (X₁.named hnamed) hstep₁ hE hM kr kt
/-- a constructor, own or of a nest mate -/
theorem x_invI {M' : MR} {idx n b : Nat} {vs stk : List Value} (hd : decode (mB M) pc = .ok (.invokespecial idx, 3)) (hM : OKm M' n) (hnm : (mY M').name = "<init>") (hH : mH M' = []) (hR : mR M' = none) (hin : Cond.instanceMethod (mY M') ∈ lw_all) (hq : Cond.methodLink (mY M).cls idx (mY M') ∈ lw_all ∨ ∃ host, Cond.methodLinkNest (mY M).cls idx (mY M') host ∈ lw_tbl)
    (hv : vs.length = n) (hs : stk = vs.reverse ++ .ref b :: st) (hw : (st.map fun v => v.category).sum ≤ 20) (hLm : lo.length = mL M)
    (hE : Ev l E d M' (.ref b :: vs) h Q') (kr : ∀ v h', Q' (.returned v) h' → Ex l E (d + 1) M (pc + 3) lo (v.toList ++ st) h' Q) (kt : ∀ a h', Q' (.threw a) h' → ExT l E (d + 1) M pc lo st a h' Q) : Ex l E (d + 1) M pc lo stk h Q := by
  intro p e R s m args below meth c u C ls H locs cells slots hL hC T hT X
  have K := C.2.2.2.2.2.2.2.2.1
  have hown := C.2.2.2.2.2.1
  have hcode : (Cond.code (mY M') (mB M') (mL M') none).before args s = true := by
    have h0 : (mW M').before args s = true := K.word hM.1
    obtain ⟨y, b, L, r, hh⟩ := M'
    have hH : hh = [] := hH
    have hR : r = none := hR
    subst hH; subst hR
    exact h0
  have hpl : e.platform.magicAccessors = ({} : Platform).magicAccessors := by rw [X.admits.platform]
  rcases hq with hq | ⟨host, hq⟩
  · obtain ⟨mk, methM, cM, kP, vm₁, hnamed, hmethM, hcodeM, -, hlocalsM, -, hkP, -, hW₁, hstep₁⟩ := Steps.initColdArgs (e := e) X.here C.1 X.warmed hpl hown hnm hM.2.2.2.1 (K.word hq) (K.word hin) hcode (f := F0 m pc ls stk) rfl (len_of hM.2.2.2.2 hv) hs (by rw [C.2.1]; exact hd)
    have X₁ := X.noted hW₁
    exact invEnd (vs := .ref b :: vs) C hL hLm hC hT hd hw X₁ (X₁.named hnamed) hstep₁ hE hM kr kt
  · obtain ⟨mk, methM, cM, kP, vm₁, hnamed, hmethM, hcodeM, -, hlocalsM, -, hkP, -, hW₁, hstep₁⟩ := Steps.initColdArgsNest (e := e) X.here C.1 X.warmed hpl hown hnm hM.2.2.2.1 (K.nest hq rfl rfl) (K.word hin) hcode (f := F0 m pc ls stk) rfl (len_of hM.2.2.2.2 hv) hs (by rw [C.2.1]; exact hd)
    have X₁ := X.noted hW₁
    exact invEnd (vs := .ref b :: vs) C hL hLm hC hT hd hw X₁ (X₁.named hnamed) hstep₁ hE hM kr kt
/-- Object's own constructor -/
theorem x_objInit {idx b : Nat} (hd : decode (mB M) pc = .ok (.invokespecial idx, 3)) (hq : Cond.methodLink (mY M).cls idx Lib.objectInit ∈ lw_all) (hi : Cond.instanceMethod Lib.objectInit ∈ lw_all) (hc : Cond.code Lib.objectInit ⟨#[0xb1]⟩ 1 none ∈ lw_all) (hw : (st.map fun v => v.category).sum ≤ 20) (hLm : lo.length = mL M)
    (kk : Ex l E d M (pc + 3) lo st h Q) : Ex l E d M pc lo (.ref b :: st) h Q := by
  intro p e R s m args below meth c u C ls H locs cells slots hL hC
  have K := C.2.2.2.2.2.2.2.2.1
  obtain ⟨r1, r2, -⟩ := C.2.2.2.2.2.2.2.2.2
  exact W.objInit C.1 C.2.1 C.2.2.2.2.2.1 (K.word hq) (K.word hi) (K.word hc) rfl (by rw [C.2.2.1, ← hLm]; exact hL.1) rfl hd (by omega) (by show 2 * 0 + _ + 12 ≤ _; omega) (kk p e R s m args below meth c u C ls H locs cells slots hL hC)
end XI
