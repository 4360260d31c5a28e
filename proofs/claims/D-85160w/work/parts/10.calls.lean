/-! CALLS -/
/-- an exception a flies over the frame: it ends with Q -/
def ExT (l : Launch) (E : EN) (d : Nat) (M : MR) (pc : Nat) (lo : LO) (st : List Value) (a : Nat) (h : CH) (Q : Outcome → CH → Prop) : Prop :=
  ∀ p e R s m args below meth c u, Ctx l E d M p e R s m args meth c u → ∀ ls H locs cells slots, LH ls lo → Cur E s u h H locs cells slots →
    ∀ T : State, T.heap = H → Stand p l e R s m args below meth c T locs cells slots → ∃ t, Steps p.tables e below ((T.setTop (F0 m pc ls st)).pushFrame (.throwing a)) t ∧ MX E below Q s u t
theorem callEv {p : Program} {l : Launch} {e : Env} {R : Room} {s : State} {m : MethodId} {sargs : Array Value} {below : List Frame} {meth : Method} {c : Code} {U : State} {Ls : List Loc} {c0 s0 : Nat}
    (X : Stand p l e R s m sargs below meth c U Ls c0 s0) {E : EN} {d u : Nat} {M' : MR} {vs : List Value} {h : CH} {Q' : Outcome → CH → Prop} (hE : Ev l E d M' vs h Q') (K : KX E s) (hC : Cur E s u h U.heap Ls c0 s0)
    (hfr : d + 41 ≤ R.frames) (hlo : 60 * d + 20060 ≤ R.locals) (hrc : eLc E ≤ s.heap.size + R.cells) (hrs : eLs E ≤ u + R.slots)
    {g : JFrame} (hg : g.method = m) (hsize : g.locals.size = c.maxLocals) {ig : Instr} {len : Nat} (hdg : decode c.code g.pc = .ok (ig, len)) (hw : 2 * g.monitorRoom + (g.stack.map fun v => v.category).sum ≤ 20) (hmL : mL M' ≤ 29)
    {mk : MethodId} (hn : U.methodNamed? (mY M') = some mk) (hcode : mW M' ∈ lw_all) (hini : Cond.initialized (mY M').cls ∈ lw_all) :
    ∃ o h' B L k n, Q' o h' ∧ Cur E s u h' B.heap (Ls ++ L) (c0 + k) (s0 + n) ∧ Stand p l e R s m sargs below meth c B (Ls ++ L) (c0 + k) (s0 + n) ∧
      (∀ v, o = .returned v → Steps p.tables e below (doInvoke e (U.setTop g) [] mk vs.toArray).1 (B.setTop { g with pc := g.pc + len, stack := v.toList ++ g.stack })) ∧
      (∀ a, o = .threw a → Steps p.tables e below (doInvoke e (U.setTop g) [] mk vs.toArray).1 ((B.setTop g).pushFrame (.throwing a))) := by
  have KU : KX E U := K.moved X.warmed
  obtain ⟨hR, hlocs, hcs, hss⟩ := hC
  obtain ⟨methY, cY, hmY, hcY, -, hlY, -, -, -, -⟩ := mW_spec (args := vs.toArray) (KU.word hcode) hn
  obtain ⟨kY, hkY, -⟩ := className_of_methodNamed hn
  have hinitY : kY.init = .initialized := Cond.initialized_spec (findClass_of_methodNamed hn) hkY (KU.word (args := vs.toArray) hini)
  have hAt : At U g.method c below := by rw [hg]; exact X.here
  have hlc := hR.1.2.2.2
  have h1 : (headSpec (mW M' :: lw_all) (rmX E d h)).pre.before vs.toArray U = true := atoms_intro fun w hw' => by
    rcases List.mem_cons.mp hw' with e1 | e1
    · rw [e1]; exact KU.word hcode
    · exact KU.word e1
  have happ : (headSpec (mW M' :: lw_all) (rmX E d h)).appliesLoose (mY M') e.platform (U.calling g mk vs.toArray) = true :=
    Spec.appliesLoose_calling (g := g) hAt hdg hn hkY hinitY
      (X.room_calling (g := g) (R' := rmX E d h) hsize hmY hcY (by show d + 40 + 1 ≤ R.frames; omega) (by rw [hlY]; have e1 : (rmX E d h).locals = 60 * d + 20000 := rfl; omega) (by show c0 + (eLc E - h.1) ≤ R.cells; omega) (by show s0 + (eLs E - h.2.1) ≤ R.slots; omega)) h1
  obtain ⟨mid, hmid⟩ := hAt.above
  have hfrm : (U.setTop g).frames = (.java g :: mid) ++ below := by rw [State.frames_setTop' g hAt.top, hmid]; rfl
  have hP : vs.toArray = vs.toArray ∧ HR E (U.calling g mk vs.toArray) h (U.calling g mk vs.toArray).heap ∧ KX E (U.calling g mk vs.toArray) :=
    ⟨rfl, hR.moved (U := U.calling g mk vs.toArray) X.warmed.alike, KU.moved (U := U.calling g mk vs.toArray) (State.WarmedH.refl U)⟩
  obtain ⟨o, s₂, hsteps, -, hend, hq⟩ := Steps.callFree hE p X.admits X.cas X.clock (acts := []) hfrm happ hP trivial
  rw [State.frames_setTop' g hAt.top] at hend
  obtain ⟨h', hq', hR', hW₂, hz1, hz2, L, ⟨e2, q2, q3, q4, q5, q6⟩, hL⟩ := hq
  have hW' : U.WarmedH s₂.vm := hW₂
  have hR2 : HR E s h' s₂.heap := hR'.moved (u := U.calling g mk vs.toArray) X.warmed.alike.symm
  have hUz : (U.calling g mk vs.toArray).heap.size = h.1 := hR.1.1
  have hUz' : ((U.setTop g).pushFrame (.invoking mk vs.toArray)).heap.size = h.1 := hR.1.1
  have e3 : s₂ = ({ (U.calling g mk vs.toArray).setFrames s₂.frames with heap := s₂.heap, slotsUsed := s₂.slotsUsed } : State).setVm s₂.vm := by
    have : s₂ = ({ s₂ with vm := (U.calling g mk vs.toArray).vm } : State).setVm s₂.vm := rfl
    have e2' : ({ s₂ with vm := (U.calling g mk vs.toArray).vm } : State) = { (U.calling g mk vs.toArray).setFrames s₂.frames with heap := s₂.heap, slotsUsed := s₂.slotsUsed } := e2
    rw [e2'] at this
    exact this
  obtain ⟨g₀, hg0⟩ := Option.isSome_iff_exists.mp hAt.top
  obtain ⟨r, hr⟩ := State.topJava?_eq_some.mp hg0
  have hr' : (({ U with heap := s₂.heap, slotsUsed := s₂.slotsUsed } : State).setVm s₂.vm).frames = .java g₀ :: r := hr
  have hsame : U.sameButNew ({ U with heap := s₂.heap, slotsUsed := s₂.slotsUsed } : State) L (h'.1 - h.1) (h'.2.1 - h.2.1) := by
    rw [hUz'] at q3
    refine ⟨?_, q2, ?_, q4, q5, q6⟩
    · obtain ⟨t, ht, -⟩ := State.frames_cons hr
      show ({ U with heap := s₂.heap, slotsUsed := s₂.slotsUsed } : State) = { U.setFrames U.frames with heap := s₂.heap, slotsUsed := s₂.slotsUsed }
      rw [State.setFrames_self ht]
    · show s₂.heap.size ≤ U.heap.size + (h'.1 - h.1)
      rw [hR.1.1]
      exact q3
  subst hg
  rw [hUz'] at hz1
  refine ⟨o, h', ({ U with heap := s₂.heap, slotsUsed := s₂.slotsUsed } : State).setVm s₂.vm, L, h'.1 - h.1, h'.2.1 - h.2.1, hq', ⟨hR2, t_lL hlocs hL, by omega, by omega⟩,
    ⟨X.admits, X.cas, X.clock, X.frames, X.room, X.hears, X.method, X.code, (X.here.setHeapUsed s₂.heap s₂.slotsUsed).setVm hW'.alike, X.tail, State.WarmedH.trans X.warmed hW', X.limits, X.bytes, X.same.trans (hsame.setVm s.vm)⟩, ?_, ?_⟩
  · rintro v rfl
    obtain ⟨c₂, i₂, len₂, hc₂, hd₂, hf₂⟩ := hend
    have hcc : c₂ = c := by
      have h1 : s₂.code? g.method = U.code? g.method := by
        rw [State.code?_eq, State.code?_eq, hW'.alike.method?]
      exact Option.some.inj (hc₂.symm.trans (h1.trans hAt.code))
    subst hcc
    have hlen : len₂ = len := by rw [hdg] at hd₂; cases hd₂; rfl
    subst hlen
    have hs₂ : s₂ = (({ U with heap := s₂.heap, slotsUsed := s₂.slotsUsed } : State).setVm s₂.vm).setTop { g with pc := g.pc + len₂, stack := v.toList ++ g.stack } := by
      refine e3.trans ?_
      rw [hf₂, State.calling_eq hAt.top, State.setFrames_setFrames, State.setTop_of_frames _ hr', hr]
      rfl
    rw [← hs₂]
    exact hsteps
  · rintro a rfl
    have hf₂ : s₂.frames = .throwing a :: .java g :: U.frames.tail := hend
    have hs₂ : s₂ = ((({ U with heap := s₂.heap, slotsUsed := s₂.slotsUsed } : State).setVm s₂.vm).setTop g).pushFrame (.throwing a) := by
      refine e3.trans ?_
      rw [hf₂, State.calling_eq hAt.top, State.setFrames_setFrames, State.pushFrame, State.frames_setTop _ hr', State.setTop_of_frames _ hr', State.setFrames_setFrames, hr]
      rfl
    rw [← hs₂]
    exact hsteps
