/-! THE RULES OF WHAT THE MACHINE THROWS -/
/-- the heap behind a throw of the machine's own: two cells of text, the exception -/
def hexc (h : CH) (k : Nat) : CH := (h.1 + 3, h.2.1 + 222, fun b => if b = h.1 + 2 then some (.inl k, 1, fun _ => .null) else h.2.2 b)
theorem KX.thr {E : EN} {s : State} (K : KX E s) : ∀ (k : Class) (c : ClassId) (a : Addr), s.vm.findClass "java/lang/Throwable" = some c → s.vm.classes[c]? = some k → k.statics = some a → a < ez E := by
  intro k c a h1 h2 h3
  obtain ⟨c', k', fi, f, a', cell, g0, g1, g2, g3, g4, g5, -⟩ := K.2.2.2.2.2.2.1 5 _ rfl
  cases h1.symm.trans g0
  cases h2.symm.trans (State.fieldFound?_spec g1).1
  cases h3.symm.trans g4
  exact g5
section XV
variable {l : Launch} {E : EN} {d : Nat} {M : MR} {pc : Nat} {lo : LO} {st : List Value} {h : CH} {Q : Outcome → CH → Prop}
set_option maxRecDepth 100000 in
/-- from the machine's note to the exception in flight -/
theorem xn {k : Nat} {names : List String} {text : String} (hk : k < NK) (hok : (Bundle.messageArmAtoms (CN k) names).all okw = true) (hfit : Bundle.fit (CN k) = true) (hfits : ∀ n ∈ names, Bundle.fit n = true) (hsoe : (CN k == "java/lang/StackOverflowError") = false) (hoom : (CN k == "java/lang/OutOfMemoryError") = false) (hnl : names.length ≤ 10)
    (htext : (text == notModelled) = false) (hb : (stringBytes (stringToUtf16 text)).size ≤ 212) (hw : (st.map fun v => v.category).sum ≤ 20) (hLm : lo.length = mL M) (h1 : h.1 + 3 ≤ eLc E) (h2 : h.2.1 + 222 ≤ eLs E)
    (kk : ExT l E d M pc lo st (h.1 + 2) (hexc h k) Q) {p : Program} {e : Env} {R : Room} {s : State} {m : MethodId} {args : Array Value} {below : List Frame} {meth : Method} {c : Code} {u : Nat} (C : Ctx l E d M p e R s m args meth c u) {ls : Array Slot} {H : Heap} {locs : List Loc} {cells slots : Nat} (hL : LH ls lo) (hC : Cur E s u h H locs cells slots) {T : State} (hT : T.heap = H) (X : Stand p l e R s m args below meth c T locs cells slots) :
    ∃ t, Steps p.tables e below ((T.setTop (F0 m pc ls st)).pushFrame (.throwNew (CN k) (some text) none)) t ∧ MX E below Q s u t := by
  have K := C.2.2.2.2.2.2.2.2.1
  obtain ⟨r1, r2, r3, r4, r5, r6⟩ := C.2.2.2.2.2.2.2.2.2
  obtain ⟨hR, hlo, hcs, hss⟩ := id hC
  subst hT
  obtain ⟨T5, L, X5, hLb, z5, o5, ⟨ce, e1, e2, e3⟩, hsteps⟩ := vmNote X C.1 r6 (cls := CN k) (names := names) (text := text) hfit hfits hsoe hoom (fun a ha => K.okword r5 (List.all_eq_true.mp hok a ha)) (z := ez E) (fun q hq => by rw [hR.1.2.2.1 q hq, r5 q hq]) K.thr
    htext (by rw [X.admits.platform]; show ¬ _ > 2147483645; omega) (by rw [X.admits.platform]; show ¬ _ * 1 > 536870912; omega) (g := F0 m pc ls st) rfl (by rw [C.2.2.1, ← hLm]; exact hL.1) (by omega) (by show 2 * 0 + (st.map fun v => v.category).sum + 10240 ≤ _; omega) (by omega) (by omega) (by omega)
  have X6 := stand_widen (k := cells + 3) (n := slots + 222) X5 (Nat.le_refl _) (by omega)
  rw [hR.1.1] at z5 o5 e1 hsteps hLb
  have hC5 : Cur E s u (hexc h k) T5.heap (locs ++ L) (cells + 3) (slots + 222) := by
    refine ⟨⟨⟨z5, ?_, fun q hq => ?_, h1, h2⟩, fun a x hx => ?_⟩, t_lL hlo (fun q hq => by rw [hLb q hq]; have := hR.1.2.1; omega), ?_, ?_⟩
    · show ez E ≤ h.1 + 3
      have := hR.1.2.1
      omega
    · rw [o5 q (Nat.lt_of_lt_of_le hq hR.1.2.1)]
      exact hR.1.2.2.1 q hq
    · have hx : (if a = h.1 + 2 then some ((Sum.inl k : Nat ⊕ Nat), 1, fun _ => Value.null) else h.2.2 a) = some x := hx
      by_cases ha : a = h.1 + 2
      · rw [if_pos ha] at hx
        cases hx
        refine ⟨ce, (by rw [ha]; exact e1), hk, ?_, (by rw [e3]; exact fun q => (by cases q)), (by rw [e3]; rfl), fun _ => e3, fun q => (by cases q)⟩
        exact Option.some.inj (e2.symm.trans (K.2.2.1 k hk).1)
      · rw [if_neg ha] at hx
        obtain ⟨c2, q1, q2⟩ := hR.2 a x hx
        have hl : a < h.1 := by rw [← hR.1.1]; exact (Array.getElem?_eq_some_iff.mp q1).1
        exact ⟨c2, by rw [o5 a hl]; exact q1, q2⟩
    · show s.heap.size + (cells + 3) = h.1 + 3
      omega
    · show u + (slots + 222) = h.2.1 + 222
      omega
  obtain ⟨t, a1, b1⟩ := kk p e R s m args below meth c u C ls T5.heap _ _ _ hL hC5 T5 rfl X6
  exact ⟨t, hsteps.trans a1, b1⟩
theorem x_ialoadOut {a n : Nat} {i : Int32} {f : Nat → Value} (hd : decode (mB M) pc = .ok (.iaload, 1)) (ha : h.2.2 a = some (.inr 0, n, f)) (hn : n < 2 ^ 31) (ho : i < 0 ∨ n ≤ i.toNatClampNeg) (hw : (st.map fun v => v.category).sum ≤ 20) (hLm : lo.length = mL M) (h1 : h.1 + 3 ≤ eLc E) (h2 : h.2.1 + 222 ≤ eLs E)
    (kk : ExT l E d M pc lo st (h.1 + 2) (hexc h 35) Q) : Ex l E d M pc lo (.int i :: .ref a :: st) h Q := by
  intro p e R s m args below meth c u C ls H locs cells slots hL hC T hT X
  obtain ⟨cell, hc1, htN, harr, hun, -, hsz, hfs⟩ := hC.1.2 a _ ha
  have hsz : cell.slots.size = n := hsz
  obtain ⟨t, a1, b1⟩ := xn (k := 35) (names := upI) (by decide) okI (by decide +kernel) (by decide +kernel) (by decide) (by decide) (by decide) (index_text_modelled i cell.slots.size) (index_text_bytes i (by rw [hsz]; exact hn)) hw hLm h1 h2 kk C hL hC hT X
  exact ⟨t, X.ialoadOut C.1 (by rw [hT]; exact hc1) harr (by rw [hsz]; exact ho) (g := F0 m pc ls (.int i :: .ref a :: st)) rfl rfl (by rw [C.2.1]; exact hd) t a1, b1⟩
theorem x_aaloadOut {a n t0 : Nat} {i : Int32} {f : Nat → Value} (hd : decode (mB M) pc = .ok (.aaload, 1)) (ha : h.2.2 a = some (.inr t0, n, f)) (hn : n < 2 ^ 31) (ho : i < 0 ∨ n ≤ i.toNatClampNeg) (hw : (st.map fun v => v.category).sum ≤ 20) (hLm : lo.length = mL M) (h1 : h.1 + 3 ≤ eLc E) (h2 : h.2.1 + 222 ≤ eLs E)
    (kk : ExT l E d M pc lo st (h.1 + 2) (hexc h 35) Q) : Ex l E d M pc lo (.int i :: .ref a :: st) h Q := by
  intro p e R s m args below meth c u C ls H locs cells slots hL hC T hT X
  obtain ⟨cell, hc1, htN, harr, hun, -, hsz, hfs⟩ := hC.1.2 a _ ha
  have hsz : cell.slots.size = n := hsz
  obtain ⟨t, a1, b1⟩ := xn (k := 35) (names := upI) (by decide) okI (by decide +kernel) (by decide +kernel) (by decide) (by decide) (by decide) (index_text_modelled i cell.slots.size) (index_text_bytes i (by rw [hsz]; exact hn)) hw hLm h1 h2 kk C hL hC hT X
  exact ⟨t, X.aaloadOut C.1 (by rw [hT]; exact hc1) harr (by rw [hsz]; exact ho) (g := F0 m pc ls (.int i :: .ref a :: st)) rfl rfl (by rw [C.2.1]; exact hd) t a1, b1⟩
theorem x_iastoreOut {a n : Nat} {i x : Int32} {f : Nat → Value} (hd : decode (mB M) pc = .ok (.iastore, 1)) (ha : h.2.2 a = some (.inr 0, n, f)) (hn : n < 2 ^ 31) (ho : i < 0 ∨ n ≤ i.toNatClampNeg) (hw : (st.map fun v => v.category).sum ≤ 20) (hLm : lo.length = mL M) (h1 : h.1 + 3 ≤ eLc E) (h2 : h.2.1 + 222 ≤ eLs E)
    (kk : ExT l E d M pc lo st (h.1 + 2) (hexc h 35) Q) : Ex l E d M pc lo (.int x :: .int i :: .ref a :: st) h Q := by
  intro p e R s m args below meth c u C ls H locs cells slots hL hC T hT X
  obtain ⟨cell, hc1, htN, harr, hun, -, hsz, hfs⟩ := hC.1.2 a _ ha
  have hsz : cell.slots.size = n := hsz
  obtain ⟨t, a1, b1⟩ := xn (k := 35) (names := upI) (by decide) okI (by decide +kernel) (by decide +kernel) (by decide) (by decide) (by decide) (index_text_modelled i cell.slots.size) (index_text_bytes i (by rw [hsz]; exact hn)) hw hLm h1 h2 kk C hL hC hT X
  exact ⟨t, X.iastoreOut C.1 (by rw [hT]; exact hc1) harr (by rw [hsz]; exact ho) (g := F0 m pc ls (.int x :: .int i :: .ref a :: st)) rfl rfl (by rw [C.2.1]; exact hd) t a1, b1⟩
theorem x_aastoreOut {a n t0 : Nat} {i : Int32} {v : Value} {f : Nat → Value} (hd : decode (mB M) pc = .ok (.aastore, 1)) (hv : isR v = true) (ha : h.2.2 a = some (.inr t0, n, f)) (hn : n < 2 ^ 31) (ho : i < 0 ∨ n ≤ i.toNatClampNeg) (hw : (st.map fun v => v.category).sum ≤ 20) (hLm : lo.length = mL M) (h1 : h.1 + 3 ≤ eLc E) (h2 : h.2.1 + 222 ≤ eLs E)
    (kk : ExT l E d M pc lo st (h.1 + 2) (hexc h 35) Q) : Ex l E d M pc lo (v :: .int i :: .ref a :: st) h Q := by
  intro p e R s m args below meth c u C ls H locs cells slots hL hC T hT X
  obtain ⟨cell, hc1, htN, harr, hun, -, hsz, hfs⟩ := hC.1.2 a _ ha
  have hsz : cell.slots.size = n := hsz
  have hv' : v.isRef = true := by cases v <;> first | rfl | cases hv
  obtain ⟨t, a1, b1⟩ := xn (k := 35) (names := upI) (by decide) okI (by decide +kernel) (by decide +kernel) (by decide) (by decide) (by decide) (index_text_modelled i cell.slots.size) (index_text_bytes i (by rw [hsz]; exact hn)) hw hLm h1 h2 kk C hL hC hT X
  exact ⟨t, X.aastoreOut C.1 hv' (by rw [hT]; exact hc1) harr (by rw [hsz]; exact ho) (g := F0 m pc ls (v :: .int i :: .ref a :: st)) rfl rfl (by rw [C.2.1]; exact hd) t a1, b1⟩
theorem x_idiv0 {x : Int32} (hd : decode (mB M) pc = .ok (.idiv, 1)) (hw : (st.map fun v => v.category).sum ≤ 20) (hLm : lo.length = mL M) (h1 : h.1 + 3 ≤ eLc E) (h2 : h.2.1 + 222 ≤ eLs E)
    (kk : ExT l E d M pc lo st (h.1 + 2) (hexc h 36) Q) : Ex l E d M pc lo (.int 0 :: .int x :: st) h Q := by
  intro p e R s m args below meth c u C ls H locs cells slots hL hC T hT X
  obtain ⟨t, a1, b1⟩ := xn (k := 36) (names := upR) (text := "/ by zero") (by decide) okA (by decide +kernel) (by decide +kernel) (by decide) (by decide) (by decide) (by decide +kernel) (by decide +kernel) hw hLm h1 h2 kk C hL hC hT X
  exact ⟨t, X.idivZero C.1 (g := F0 m pc ls (.int 0 :: .int x :: st)) rfl rfl (by rw [C.2.1]; exact hd) t a1, b1⟩
theorem x_irem0 {x : Int32} (hd : decode (mB M) pc = .ok (.irem, 1)) (hw : (st.map fun v => v.category).sum ≤ 20) (hLm : lo.length = mL M) (h1 : h.1 + 3 ≤ eLc E) (h2 : h.2.1 + 222 ≤ eLs E)
    (kk : ExT l E d M pc lo st (h.1 + 2) (hexc h 36) Q) : Ex l E d M pc lo (.int 0 :: .int x :: st) h Q := by
  intro p e R s m args below meth c u C ls H locs cells slots hL hC T hT X
  obtain ⟨t, a1, b1⟩ := xn (k := 36) (names := upR) (text := "/ by zero") (by decide) okA (by decide +kernel) (by decide +kernel) (by decide) (by decide) (by decide) (by decide +kernel) (by decide +kernel) hw hLm h1 h2 kk C hL hC hT X
  exact ⟨t, X.iremZero C.1 (g := F0 m pc ls (.int 0 :: .int x :: st)) rfl rfl (by rw [C.2.1]; exact hd) t a1, b1⟩
theorem x_newarrayNeg {at0 : ArrayType} {n : Int32} (hd : decode (mB M) pc = .ok (.newarray at0, 2)) (hn : n < 0) (hw : (st.map fun v => v.category).sum ≤ 20) (hLm : lo.length = mL M) (h1 : h.1 + 3 ≤ eLc E) (h2 : h.2.1 + 222 ≤ eLs E)
    (kk : ExT l E d M pc lo st (h.1 + 2) (hexc h 37) Q) : Ex l E d M pc lo (.int n :: st) h Q := by
  intro p e R s m args below meth c u C ls H locs cells slots hL hC T hT X
  obtain ⟨t, a1, b1⟩ := xn (k := 37) (names := upR) (text := toString n) (by decide) okN (by decide +kernel) (by decide +kernel) (by decide) (by decide) (by decide) (negative_text_modelled hn) (Nat.le_trans (negative_text_bytes n) (by decide)) hw hLm h1 h2 kk C hL hC hT X
  exact ⟨t, X.newarrayNegative C.1 (g := F0 m pc ls (.int n :: st)) rfl hn rfl (by rw [C.2.1]; exact hd) t a1, b1⟩
end XV
