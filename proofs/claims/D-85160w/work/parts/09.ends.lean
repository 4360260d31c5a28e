/-! THE ENDS OF A METHOD, AND ITS CONTRACT -/
section XE
variable {l : Launch} {E : EN} {d : Nat} {M : MR} {pc : Nat} {lo : LO} {h : CH} {Q : Outcome → CH → Prop}
theorem MX.of {E : EN} {below : List Frame} {Q : Outcome → CH → Prop} {s t : State} {u cells slots : Nat} {h : CH} {H : Heap} {locs : List Loc} {o : Outcome} (hC : Cur E s u h H locs cells slots) (hq : Q o h) (ht : t.heap = H) (hrun : t.status = .running) (hended : Ended t below o) (hW : s.WarmedH t.vm) (hframe : s.sameButNew ({ t with vm := s.vm } : State) locs cells slots) : MX E below Q s u t := by
  obtain ⟨hR, hlo, hcs, hss⟩ := hC
  refine ⟨o, h, hrun, hended, hq, by rw [ht]; exact hR, hW, by omega, by omega, locs, ?_, hlo⟩
  rw [show h.1 - s.heap.size = cells by omega, show h.2.1 - u = slots by omega]
  exact hframe
theorem x_iret {v : Int32} {ty : FieldType} (hd : decode (mB M) pc = .ok (.ireturn, 1)) (hr : mR M = some ty) (hn : narrow ty (.int v) = .int v) (hq : Q (.returned (some (.int v))) h) : Ex l E d M pc lo [.int v] h Q := by
  intro p e R s m args below meth c u C ls H locs cells slots hL hC T hT X
  have hexec := C.1
  have hb := C.2.1
  have hr' : meth.sig.returnType = some ty := C.2.2.2.1.trans hr
  have hlocks : meth.locks = false := C.2.2.2.2.1
  obtain ⟨fs, hret, hrun, hended, hW, hframe⟩ := X.leave (v := some (.int v)) (fun h => by rw [hr'] at h; cases h)
  have hmeth' : T.vm.method? m = some meth := X.method'
  refine ⟨T.setFrames fs, ?_, MX.of hC hq hT hrun hended hW hframe⟩
  jvm_step X.here [X.here.top, hexec, hb, hd, hmeth', hr', hn]
  (try refine ⟨rfl, ?_⟩); (try refine ⟨rfl, ?_⟩)
  first | (intro acts; rw [hret _ acts rfl rfl rfl]) | rw [hret _ _ rfl rfl rfl]
  exact Steps.refl _
theorem x_lret {v : Int64} (hd : decode (mB M) pc = .ok (.lreturn, 1)) (hr : mR M = some .long) (hq : Q (.returned (some (.long v))) h) : Ex l E d M pc lo [.long v] h Q := by
  intro p e R s m args below meth c u C ls H locs cells slots hL hC T hT X
  have hexec := C.1
  have hb := C.2.1
  have hr' : meth.sig.returnType = some .long := C.2.2.2.1.trans hr
  have hlocks : meth.locks = false := C.2.2.2.2.1
  obtain ⟨fs, hret, hrun, hended, hW, hframe⟩ := X.leave (v := some (.long v)) (fun h => by rw [hr'] at h; cases h)
  have hmeth' : T.vm.method? m = some meth := X.method'
  refine ⟨T.setFrames fs, ?_, MX.of hC hq hT hrun hended hW hframe⟩
  jvm_step X.here [X.here.top, hexec, hb, hd, hmeth', hr']
  (try refine ⟨rfl, ?_⟩); (try refine ⟨rfl, ?_⟩)
  first | (intro acts; rw [hret _ acts rfl rfl rfl]) | rw [hret _ _ rfl rfl rfl]
  exact Steps.refl _
theorem x_vret (hd : decode (mB M) pc = .ok (.return_, 1)) (hr : mR M = none) (hq : Q (.returned none) h) : Ex l E d M pc lo [] h Q := by
  intro p e R s m args below meth c u C ls H locs cells slots hL hC T hT X
  have hexec := C.1
  have hb := C.2.1
  have hr' : meth.sig.returnType = none := C.2.2.2.1.trans hr
  have hlocks : meth.locks = false := C.2.2.2.2.1
  obtain ⟨fs, hret, hrun, hended, hW, hframe⟩ := X.leave (v := none) (fun _ => rfl)
  have hmeth' : T.vm.method? m = some meth := X.method'
  refine ⟨T.setFrames fs, ?_, MX.of hC hq hT hrun hended hW hframe⟩
  jvm_step X.here [X.here.top, hexec, hb, hd, hmeth', hr']
  (try refine ⟨rfl, ?_⟩); (try refine ⟨rfl, ?_⟩)
  first | (intro acts; rw [hret _ acts rfl rfl rfl]) | rw [hret _ _ rfl rfl rfl]
  exact Steps.refl _
theorem x_aret {v : Value} {rt : FieldType} (hd : decode (mB M) pc = .ok (.areturn, 1)) (hr : mR M = some rt) (hrt : (∃ n, rt = .object n) ∨ ∃ t, rt = .array t) (hv : isR v = true) (hq : Q (.returned (some v)) h) : Ex l E d M pc lo [v] h Q := by
  intro p e R s m args below meth c u C ls H locs cells slots hL hC T hT X
  have hexec := C.1
  have hb := C.2.1
  have hr' : meth.sig.returnType = some rt := C.2.2.2.1.trans hr
  have hlocks : meth.locks = false := C.2.2.2.2.1
  obtain ⟨fs, hret, hrun, hended, hW, hframe⟩ := X.leave (v := some v) (fun h => by rw [hr'] at h; cases h)
  have hmeth' : T.vm.method? m = some meth := X.method'
  refine ⟨T.setFrames fs, ?_, MX.of hC hq hT hrun hended hW hframe⟩
  have hv' : v = .null ∨ ∃ a, v = .ref a := by cases v with
    | null => exact Or.inl rfl
    | ref a => exact Or.inr ⟨a, rfl⟩
    | _ => cases hv
  rcases hrt with ⟨n, rfl⟩ | ⟨t, rfl⟩ <;> rcases hv' with rfl | ⟨a, rfl⟩ <;>
    (jvm_step X.here [X.here.top, hexec, hb, hd, hmeth', hr']
     (try refine ⟨rfl, ?_⟩); (try refine ⟨rfl, ?_⟩)
     first | (intro acts; rw [hret _ acts rfl rfl rfl]) | rw [hret _ _ rfl rfl rfl]
     exact Steps.refl _)
theorem mW_spec {M : MR} {args : Array Value} {s : State} {m : MethodId} (h : (mW M).before args s = true) (hn : s.methodNamed? (mY M) = some m) : ∃ meth c, s.vm.method? m = some meth ∧ meth.code = some c ∧ c.code = mB M ∧ c.maxLocals = mL M ∧ meth.sig.returnType = mR M ∧ meth.locks = false ∧
    (c.exceptionTable.toList.map fun x => (x.startPc, x.endPc, x.handlerPc, x.catchType)) = mH M ∧ parseMethodDescriptor (mY M).desc = some meth.sig := by
  obtain ⟨y, b, L, r, hh⟩ := M
  cases hh with
  | nil =>
    obtain ⟨meth, c, h1, h2, h3, h4, h5, h6, h7, h8⟩ := Cond.code_spec hn h
    refine ⟨meth, c, h1, h2, h3, h4, h5, h6, ?_, h8⟩
    have : c.exceptionTable = #[] := by simpa using h7
    rw [this]
    rfl
  | cons x xs =>
    obtain ⟨m', meth, c, hn', h1, h2, h3, h4, h5, h6, h7, h8⟩ := Cond.codeWith_spec h
    cases hn.symm.trans hn'
    exact ⟨meth, c, h1, h2, h3, h4, h6, h7, h5, h8⟩
/-- a contract out of a walk of the body -/
theorem Ev.of {vs : List Value} (hst : l.stackTraces = false) (hp : plainName (mY M).cls = true) (hl : (evs vs).length ≤ mL M) (hk : Ex l E d M 0 (ent vs (mL M)) [] h Q) : Ev l E d M vs h Q := by
  refine MetFree.of_bodyS (code := mB M) (maxLocals := mL M) (ret := mR M) hp ?_ ?_
  · intro args s m hh hn
    obtain ⟨meth, c, h1, h2, h3, h4, h5, h6, -, -⟩ := mW_spec (atoms_spec (ws := mW M :: lw_all) hh _ List.mem_cons_self) hn
    exact ⟨meth, c, h1, h2, h3, h4, h5, h6⟩
  · intro p e s m args below meth c s₁ B hml hP _
    obtain ⟨rfl, hR, K⟩ := hP
    have hh0 : s₁.heap = s.heap := by rw [B.state]; rfl
    obtain ⟨meth', c', h1, h2, -, -, -, -, h7, -⟩ := mW_spec (atoms_spec (ws := mW M :: lw_all) B.pre _ List.mem_cons_self) B.named
    cases h1.symm.trans B.method
    have X := Stand.of_body B
    cases h2.symm.trans X.code
    have C : Ctx l E d M p e (headSpec (mW M :: lw_all) (rmX E d h)).room s m vs.toArray meth c h.2.1 :=
      ⟨B.exec, B.bytes, hml, B.returns, B.notSynchronized, findClass_of_methodNamed B.named, (name_of_methodNamed B.named B.method).1, h7, K, Nat.le_refl _, Nat.le_refl _, by rw [hR.1.1]; show eLc E ≤ h.1 + (eLc E - h.1); omega, (by show eLs E ≤ h.2.1 + (eLs E - h.2.1); omega), hR.1.2.2.1, (by rw [X.admits.platform]; exact hst)⟩
    have hW := hk p e _ s m vs.toArray below meth c h.2.1 C _ s.heap [] 0 0 (LH.entry vs hl) ⟨hR, fun q hq => (by cases hq), (by rw [hR.1.1]; omega), (by omega)⟩
    rw [← lg_entry_eq] at hW
    obtain ⟨t, a1, o, h', b1, b2, b3, b4, b5, b6, b7, b8⟩ := hW s₁ hh0 X
    exact ⟨t, o, a1, b1, b2, h', b3, b4, b5, b6, b7, b8⟩
end XE
