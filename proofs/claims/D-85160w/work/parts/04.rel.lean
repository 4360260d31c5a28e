def isR : Value → Bool
  | .ref _ => true
  | .null => true
  | _ => false
/-! WHAT HOLDS OF THE TABLES ALL THROUGH A RUN, and how a clean heap stands for the machine's -/
def ATs : List FieldType := [.int, .long, .byte, .boolean, .object "TallySlate$Thing", .object "TallySlate$Node", .object "TallySlate$Deed", .object "TallySlate$Definition", .object "TallySlate$Call", .object "TallySlate$Row", .object "java/lang/String", .array .int]
def NA : Nat := 12
def AT (t : Nat) : FieldType := ATs.getD t .int
/-- words that ride beside lw_all -/
def xw : Cond → Bool
  | .fieldLinkNest .. => true
  | .methodLinkNest .. => true
  | .castable .. => true
  | .declares .. => true
  | .arrayOver .. => true
  | _ => false
/-- a class can (not) be cast to another -/
def castF (U : State) (C T : String) (b : Bool) : Prop := ∃ x y, U.vm.findClass C = some x ∧ U.vm.findClass T = some y ∧ U.vm.assignable x y = b
/-- an array class by its element type -/
def arrF (U : State) (cA : ClassId) (ty : FieldType) : Prop := ∃ (kA : Class) (comp : ClassId), U.vm.findClass ("[" ++ ty.toString) = some cA ∧ U.vm.classes[cA]? = some kA ∧ kA.kind = .array comp ty ∧ (∀ C, ty = .object C → U.vm.findClass C = some comp) ∧ (∀ t, ty = .array t → U.vm.findClass ty.toString = some comp)
theorem castF.moved {u U : State} (hv : u.vm.Alike U.vm) {C T : String} {b : Bool} (h : castF u C T b) : castF U C T b := by
  obtain ⟨x, y, h1, h2, h3⟩ := h
  exact ⟨x, y, by rw [hv.findClass]; exact h1, by rw [hv.findClass]; exact h2, by rw [hv.assignable]; exact h3⟩
theorem arrF.moved {u U : State} (hv : u.vm.Alike U.vm) {cA : ClassId} {ty : FieldType} (h : arrF u cA ty) : arrF U cA ty := by
  obtain ⟨kA, comp, h1, h2, h3, h4, h5⟩ := h
  obtain ⟨k', hk', he⟩ := hv.2.2 _ _ h2
  exact ⟨k', comp, by rw [hv.findClass]; exact h1, hk', by rw [he]; exact h3, fun C hC => by rw [hv.findClass]; exact h4 C hC, fun t ht => by rw [hv.findClass]; exact h5 t ht⟩
theorem arrF.of {u : State} {cA : ClassId} {ty : FieldType} (h : arrF u cA ty) {cell : Cell} (hc : cell.cls = cA) (hv : cell.vm = .none) : u.isArrayOf cell ty := by
  obtain ⟨kA, comp, h1, h2, h3, -⟩ := h
  exact ⟨fun k hk => (by rw [hv] at hk; cases hk), kA, by rw [hc]; exact h2, comp, h3⟩
/-- pairs of classes that can't be cast -/
def ncq : Cond → Option (String × String)
  | .not (.castable a b) => some (a, b)
  | _ => none
def NCL : List (String × String) := (flatC narrow_1).filterMap ncq
/-- statics that are read -/
def STs : List (String × String × String) := [("TallySlate", "BUILT_INS", "[Ljava/lang/String;"), ("TallySlate", "WANTS", "[I"), ("TallySlate", "WORDS", "[Ljava/lang/String;"), ("java/lang/String", "COMPACT_STRINGS", "Z"), ("java/lang/Throwable", "SUPPRESSED_SENTINEL", "Ljava/util/List;"), ("java/lang/Throwable", "UNASSIGNED_STACK", "[Ljava/lang/StackTraceElement;"), ("jdk/internal/util/Preconditions", "SIOOBE_FORMATTER", "Ljava/util/function/BiFunction;")]
def SKs : List (String × Nat × String) := [("TallySlate", 256, "row"), ("TallySlate", 258, "iota"), ("TallySlate", 260, "pack"), ("TallySlate", 262, "grid"), ("TallySlate", 264, "rows"), ("TallySlate", 266, "box"), ("TallySlate", 268, "size"), ("TallySlate", 269, "widths"), ("TallySlate", 271, "kind"), ("TallySlate", 272, "sum"), ("TallySlate", 273, "max"), ("TallySlate", 275, "min"), ("TallySlate", 277, "scan"), ("TallySlate", 279, "sort"), ("TallySlate", 281, "grade"), ("TallySlate", 283, "back"), ("TallySlate", 284, "flat"), ("TallySlate", 286, "turn"), ("TallySlate", 288, "group"), ("TallySlate", 290, "join"), ("TallySlate", 292, "take"), ("TallySlate", 294, "drop"), ("TallySlate", 295, "cut"), ("TallySlate", 297, "pick"), ("TallySlate", 299, "find"), ("TallySlate", 301, "pad"), ("TallySlate", 303, "outer"), ("TallySlate", 305, "same"), ("TallySlate", 306, "each"), ("TallySlate", 308, "fold"), ("TallySlate", 317, "fn"), ("TallySlate", 319, "if"), ("TallySlate", 321, "else"), ("TallySlate", 323, "while"), ("TallySlate", 325, "for"), ("TallySlate", 327, "in"), ("TallySlate", 329, "say"), ("TallySlate", 331, "return"), ("TallySlate", 333, "raise"), ("TallySlate", 335, "try"), ("TallySlate", 337, "on"), ("TallySlate$Reader", 32, "fn"), ("TallySlate$Reader", 154, "if"), ("TallySlate$Reader", 159, "while"), ("TallySlate$Reader", 164, "for"), ("TallySlate$Reader", 169, "say"), ("TallySlate$Reader", 175, "return"), ("TallySlate$Reader", 177, "raise"), ("TallySlate$Reader", 179, "try"), ("TallySlate$Reader", 220, "else"), ("TallySlate$Reader", 238, "in"), ("TallySlate$Reader", 254, "on"), ("TallySlate$Scanner", 81, "{}()[];,=<>+-*/%&|!")]
/-- a static, in its class's cell, which is old -/
def ZF (E : EN) (U : State) (i : Nat) (q : String × String × String) : Prop := ∃ (c : ClassId) (k : Class) (fi : Nat) (f : Field) (a : Nat) (cell : Cell), U.vm.findClass q.1 = some c ∧ U.fieldFound? q.1 q.2.1 q.2.2 = some (c, k, fi, f) ∧ f.isStatic = true ∧ k.init = .initialized ∧ k.statics = some a ∧ a < ez E ∧ (eH E)[a]? = some cell ∧ cell.vm.isStatics = true ∧ cell.cls = c ∧ f.slot < cell.slots.size ∧ k.staticTypes[f.slot]? = some f.type ∧ cell.slots[f.slot]? = some (eSV E i)
theorem ZF.moved {E : EN} {u U : State} {i : Nat} {q : String × String × String} (hv : u.vm.Alike U.vm) (h : ZF E u i q) : ZF E U i q := by
  obtain ⟨c, k, fi, f, a, cell, h0, h1, h2, h3, h4, h5, h6, h7, h8, h9, h10, h11⟩ := h
  obtain ⟨k', hi', he⟩ := State.fieldFound?_setVm hv h1
  exact ⟨c, k', fi, f, a, cell, by rw [hv.findClass]; exact h0, hi', h2, by rw [he]; exact h3, by rw [he]; exact h4, h5, h6, h7, h8, h9, by rw [he]; exact h10, h11⟩
def KX (E : EN) (U : State) : Prop :=
  (∀ w ∈ lw_all, w.before #[] U = true) ∧ (∀ w ∈ lw_tbl, xw w = true → w.before #[] U = true) ∧
  (∀ k, k < NK → ClassAt U (CN k) (eC E k)) ∧ (∀ j, j < NF → SlotIs U (FT j).1 (FT j).2.1 (FT j).2.2.1 (eS E j)) ∧ (∀ t, t < NA → arrF U (eA E t) (AT t)) ∧ (∀ q ∈ NCL, castF U q.1 q.2 false) ∧
  (∀ (i : Nat) (q : String × String × String), STs[i]? = some q → ZF E U i q) ∧ (isR (eSV E 4) = true ∧ isR (eSV E 5) = true ∧ isR (eSV E 6) = true) ∧ (∀ (i : Nat) (q : String × Nat × String), SKs[i]? = some q → vk_R q.1 q.2.1 q.2.2 (eSC E i) U)
theorem KX.moved {E : EN} {s U : State} (hW : s.WarmedH U.vm) (h : KX E s) : KX E U := by
  obtain ⟨h1, h2, h3, h4, h5, h6, h7, h9, h8⟩ := h
  refine ⟨fun w hw => word_at hW (good_of_word (List.mem_filter.mp hw).2) (h1 w hw), fun w hw hx => ?_, fun k hk => classAt_moved hW.alike (h3 k hk), fun j hj => slotIs_moved hW.alike (h4 j hj), fun t ht => (h5 t ht).moved hW.alike, fun q hq => (h6 q hq).moved hW.alike, fun i q hq => (h7 i q hq).moved hW.alike, h9, fun i q hq => (h8 i q hq).warm hW⟩
  have hb := h2 w hw hx
  cases w with
  | fieldLinkNest a i b n d h => exact va_Nw.warmF hW hb
  | methodLinkNest a i x h => exact va_Nw.warmM hW hb
  | castable a b => exact va_Nw.warmC hW hb
  | declares x => exact va_Nw.warmD hW hb
  | arrayOver ty =>
    have e := Cond.arrayOver_setVmC (args := #[]) hW.alike ty
    have h0 : (Cond.arrayOver ty).before #[] (s.setVm U.vm) = true := by rw [e]; exact hb
    exact h0
  | _ => simp [xw] at hx
/-- a cell of the machine's heap as the clean heap has it -/
def CR (E : EN) (U : State) (a : Nat) (cell : Cell) (x : (Nat ⊕ Nat) × Nat × (Nat → Value)) : Prop := match x.1 with
  | .inl k => k < NK ∧ cell.cls = eC E k ∧ cell.vm ≠ .unknown ∧ cell.vm.isStatics = false ∧ (ez E ≤ a → cell.vm = .none) ∧ (x.2.1 = 0 → ∀ j ∈ CF k, cell.slots[eS E j]? = some (x.2.2 j))
  | .inr t => t < NA ∧ U.isArrayOf cell (AT t) ∧ cell.vm ≠ .unknown ∧ (ez E ≤ a → cell.cls = eA E t ∧ cell.vm = .none) ∧ cell.slots.size = x.2.1 ∧ ∀ j, j < x.2.1 → cell.slots[j]? = some (x.2.2 j)
theorem CR.moved {E : EN} {u U : State} {a : Nat} {cell : Cell} {x : (Nat ⊕ Nat) × Nat × (Nat → Value)} (hv : u.vm.Alike U.vm) (h : CR E u a cell x) : CR E U a cell x := by
  obtain ⟨y, n, f⟩ := x
  cases y with
  | inl k => exact h
  | inr t =>
    obtain ⟨h1, h2, h3⟩ := h
    exact ⟨h1, State.isArrayOf_alike hv h2, h3⟩
def HR (E : EN) (U : State) (h : CH) (H : Heap) : Prop := (H.size = h.1 ∧ ez E ≤ h.1 ∧ (∀ q, q < ez E → H[q]? = (eH E)[q]?) ∧ h.1 ≤ eLc E ∧ h.2.1 ≤ eLs E) ∧ ∀ (a : Nat) (x : (Nat ⊕ Nat) × Nat × (Nat → Value)), h.2.2 a = some x → ∃ cell, H[a]? = some cell ∧ CR E U a cell x
theorem HR.moved {E : EN} {u U : State} {h : CH} {H : Heap} (hv : u.vm.Alike U.vm) (hh : HR E u h H) : HR E U h H := by
  refine ⟨hh.1, fun a x hx => ?_⟩
  obtain ⟨cell, h1, h2⟩ := hh.2 a x hx
  exact ⟨cell, h1, h2.moved hv⟩
/-- where a walk stands: the heap, what was written, how much was made -/
def Cur (E : EN) (s : State) (u : Nat) (h : CH) (H : Heap) (locs : List Loc) (cells slots : Nat) : Prop :=
  HR E s h H ∧ (∀ q ∈ locs, ez E ≤ q.base) ∧ s.heap.size + cells = h.1 ∧ u + slots = h.2.1
/-- the frame in which a method runs -/
def Ctx (l : Launch) (E : EN) (d : Nat) (M : MR) (p : Program) (e : Env) (R : Room) (s : State) (m : MethodId) (args : Array Value) (meth : Method) (c : Code) (u : Nat) : Prop :=
  p.tables.exec = Jvm.exec ∧ c.code = mB M ∧ c.maxLocals = mL M ∧ meth.sig.returnType = mR M ∧ meth.locks = false ∧ s.vm.findClass (mY M).cls = some m.cls ∧ meth.name = (mY M).name ∧
  (c.exceptionTable.toList.map fun x => (x.startPc, x.endPc, x.handlerPc, x.catchType)) = mH M ∧ KX E s ∧
  d + 40 ≤ R.frames ∧ 60 * d + 20000 ≤ R.locals ∧ eLc E ≤ s.heap.size + R.cells ∧ eLs E ≤ u + R.slots ∧ (∀ q, q < ez E → s.heap[q]? = (eH E)[q]?) ∧ e.platform.stackTraces = false
/-- a method's end -/
def MX (E : EN) (below : List Frame) (Q : Outcome → CH → Prop) (s : State) (u : Nat) : State → Prop := fun t =>
  ∃ o h', t.status = .running ∧ Ended t below o ∧ Q o h' ∧ HR E s h' t.heap ∧ s.WarmedH t.vm ∧ s.heap.size ≤ h'.1 ∧ u ≤ h'.2.1 ∧
    ∃ L, s.sameButNew ({ t with vm := s.vm } : State) L (h'.1 - s.heap.size) (h'.2.1 - u) ∧ ∀ q ∈ L, ez E ≤ q.base
/-- from a point of a method's body: it ends with Q -/
def Ex (l : Launch) (E : EN) (d : Nat) (M : MR) (pc : Nat) (lo : LO) (st : List Value) (h : CH) (Q : Outcome → CH → Prop) : Prop :=
  ∀ p e R s m args below meth c u, Ctx l E d M p e R s m args meth c u → ∀ ls H locs cells slots, LH ls lo → Cur E s u h H locs cells slots →
    W p l e R s m args below meth c H locs cells slots (MX E below Q s u) (F0 m pc ls st)
def rmX (E : EN) (d : Nat) (h : CH) : Room := { frames := d + 40, cells := eLc E - h.1, slots := eLs E - h.2.1, locals := 60 * d + 20000 }
def mW (M : MR) : Cond := match mH M with
  | [] => .code (mY M) (mB M) (mL M) (mR M)
  | _ => .codeWith (mY M) (mB M) (mL M) (mR M) (mH M)
/-- a method's contract, called with vs in the heap h: it ends with Q -/
def Ev (l : Launch) (E : EN) (d : Nat) (M : MR) (vs : List Value) (h : CH) (Q : Outcome → CH → Prop) : Prop :=
  MetFree l (mY M) (headSpec (mW M :: lw_all) (rmX E d h)) (fun a s => a = vs.toArray ∧ HR E s h s.heap ∧ KX E s) (fun _ _ _ _ _ => True)
    (fun _ s o t => ∃ h', Q o h' ∧ HR E s h' t.heap ∧ s.WarmedH t.vm ∧ s.heap.size ≤ h'.1 ∧ h.2.1 ≤ h'.2.1 ∧
      ∃ L, s.sameButNew ({ t with vm := s.vm } : State) L (h'.1 - s.heap.size) (h'.2.1 - h.2.1) ∧ ∀ q ∈ L, ez E ≤ q.base)
