/-! THE RULES OF FIELDS, ARRAYS, NEW OBJECTS -/
def vup (f : Nat → Value) (j : Nat) (v : Value) : Nat → Value := fun i => if i = j then v else f i
def hset (h : CH) (a : Nat) (x : (Nat ⊕ Nat) × Nat × (Nat → Value)) : CH := (h.1, h.2.1, fun b => if b = a then some x else h.2.2 b)
def hpush (h : CH) (x : (Nat ⊕ Nat) × Nat × (Nat → Value)) (n : Nat) : CH := (h.1 + 1, h.2.1 + n, fun b => if b = h.1 then some x else h.2.2 b)
def FY (j : Nat) : FieldType := (parseFieldDescriptor (FT j).2.2.1).getD .int
theorem ty_ok : ∀ j, j < NF → parseFieldDescriptor (FT j).2.2.1 = some (FY j) := by decide +kernel
theorem nm_okB : CFs.all (fun L => L.all (fun a => decide (a < NF) && L.all (fun b => decide (a = b) || decide (¬ (FT a).2.1 = (FT b).2.1)))) = true := by decide +kernel
theorem cf_in (k : Nat) : CF k = [] ∨ CF k ∈ CFs := by
  unfold CF
  by_cases h : k < CFs.length
  · right
    rw [List.getD_eq_getElem?_getD, List.getElem?_eq_getElem h]
    exact List.getElem_mem h
  · left
    rw [List.getD_eq_getElem?_getD, List.getElem?_eq_none (by omega)]
    rfl
theorem cf_lt {k j : Nat} (h : j ∈ CF k) : j < NF := by
  rcases cf_in k with e | e
  · rw [e] at h; cases h
  · have := List.all_eq_true.mp (List.all_eq_true.mp nm_okB _ e) j h
    simp only [Bool.and_eq_true, decide_eq_true_eq] at this
    exact this.1
theorem cf_nm {k a b : Nat} (ha : a ∈ CF k) (hb : b ∈ CF k) (h : a ≠ b) : (FT a).2.1 ≠ (FT b).2.1 := by
  rcases cf_in k with e | e
  · rw [e] at ha; cases ha
  · have := List.all_eq_true.mp (List.all_eq_true.mp nm_okB _ e) a ha
    simp only [Bool.and_eq_true, decide_eq_true_eq] at this
    have h2 := List.all_eq_true.mp this.2 b hb
    simp only [Bool.or_eq_true, decide_eq_true_eq] at h2
    rcases h2 with h2 | h2
    · exact absurd h2 h
    · exact h2
theorem KX.word {E : EN} {s : State} {args : Array Value} (K : KX E s) {w : Cond} (h : w ∈ lw_all) : w.before args s = true :=
  word_at (State.WarmedH.refl s) (good_of_word (List.mem_filter.mp h).2) (K.1 w h)
theorem KX.lays {E : EN} {s : State} {args : Array Value} (K : KX E s) {k j : Nat} (hk : k < NK) (hj : j ∈ CF k) :
    (Cond.lays (CN k) (FT j).1 (FT j).2.1 (FT j).2.2.1).before args s = true ∨ (Cond.laysFinal (CN k) (FT j).1 (FT j).2.1 (FT j).2.2.1).before args s = true := by
  have h := K.word (args := args) (cf_ok k hk j hj)
  unfold layG at h
  split at h
  · exact Or.inr h
  · exact Or.inl h
theorem KX.apart {E : EN} {s : State} (K : KX E s) {k a b : Nat} (hk : k < NK) (ha : a ∈ CF k) (hb : b ∈ CF k) (h : a ≠ b) : eS E a ≠ eS E b := by
  obtain ⟨_, _, _, fa, hia, ea⟩ := K.2.2.2.1 a (cf_lt ha)
  obtain ⟨_, _, _, fb, hib, eb⟩ := K.2.2.2.1 b (cf_lt hb)
  rw [← ea, ← eb]
  refine u_apart (K.lays (args := #[]) hk ha) (K.lays hk hb) hia hib ?_
  rw [(State.fieldFound?_type hia (ty_ok a (cf_lt ha))).1, (State.fieldFound?_type hib (ty_ok b (cf_lt hb))).1]
  exact cf_nm ha hb h
/-- the link of a field: spelled by its owner or an heir, own or of a nest mate -/
def LKf (own : String) (idx j : Nat) : Prop :=
  (∃ ref, Cond.fieldLink own idx ref (FT j).2.1 (FT j).2.2.1 ∈ lw_all ∧ (ref = (FT j).1 ∨ Cond.sameField ref (FT j).1 (FT j).2.1 (FT j).2.2.1 ∈ lw_all)) ∨
  (∃ ref host, Cond.fieldLinkNest own idx ref (FT j).2.1 (FT j).2.2.1 host ∈ lw_tbl ∧ (ref = (FT j).1 ∨ Cond.sameField ref (FT j).1 (FT j).2.1 (FT j).2.2.1 ∈ lw_all))
theorem KX.same {E : EN} {s : State} (K : KX E s) {ref : String} {j : Nat} (hs : ref = (FT j).1 ∨ Cond.sameField ref (FT j).1 (FT j).2.1 (FT j).2.2.1 ∈ lw_all) {x : ClassId × Class × Nat × Field} (hx : s.fieldFound? (FT j).1 (FT j).2.1 (FT j).2.2.1 = some x) : s.fieldFound? ref (FT j).2.1 (FT j).2.2.1 = some x := by
  rcases hs with rfl | hs
  · exact hx
  · exact u_same (K.word (args := #[]) hs) x hx
theorem KX.nest {E : EN} {s : State} {args : Array Value} (K : KX E s) {w : Cond} (h : w ∈ lw_tbl) (hx : xw w = true) (ht : w.onTables = true) : w.before args s = true := va_tabs ht rfl (K.2.1 w h hx)
theorem HR.set {E : EN} {s : State} {h : CH} {H H1 : Heap} {a : Nat} {x : (Nat ⊕ Nat) × Nat × (Nat → Value)} {cell : Cell} (hR : HR E s h H) (hza : ez E ≤ a) (h1 : H1[a]? = some cell) (hz : H1.size = H.size) (ho : ∀ q, q ≠ a → H1[q]? = H[q]?) (hc : CR E s a cell x) : HR E s (hset h a x) H1 := by
  refine ⟨⟨by rw [hz]; exact hR.1.1, hR.1.2.1, fun q hq => by rw [ho q (by omega)]; exact hR.1.2.2.1 q hq, hR.1.2.2.2⟩, fun b y hy => ?_⟩
  have hy : (if b = a then some x else h.2.2 b) = some y := hy
  by_cases hb : b = a
  · subst hb
    rw [if_pos rfl] at hy
    cases hy
    exact ⟨cell, h1, hc⟩
  · rw [if_neg hb] at hy
    obtain ⟨c2, q1, q2⟩ := hR.2 b y hy
    exact ⟨c2, by rw [ho b hb]; exact q1, q2⟩
theorem HR.push {E : EN} {s : State} {h : CH} {H H1 : Heap} {x : (Nat ⊕ Nat) × Nat × (Nat → Value)} {n : Nat} {cell : Cell} (hR : HR E s h H) (l1 : h.1 + 1 ≤ eLc E) (l2 : h.2.1 + n ≤ eLs E) (h1 : H1[h.1]? = some cell) (hz : H1.size = h.1 + 1) (ho : ∀ q, q < h.1 → H1[q]? = H[q]?) (hc : CR E s h.1 cell x) : HR E s (hpush h x n) H1 := by
  refine ⟨⟨hz, Nat.le_succ_of_le hR.1.2.1, fun q hq => by rw [ho q (Nat.lt_of_lt_of_le hq hR.1.2.1)]; exact hR.1.2.2.1 q hq, l1, l2⟩, fun b y hy => ?_⟩
  have hy : (if b = h.1 then some x else h.2.2 b) = some y := hy
  by_cases hb : b = h.1
  · subst hb
    rw [if_pos rfl] at hy
    cases hy
    exact ⟨cell, h1, hc⟩
  · rw [if_neg hb] at hy
    obtain ⟨c2, q1, q2⟩ := hR.2 b y hy
    have hl : b < h.1 := by rw [← hR.1.1]; exact (Array.getElem?_eq_some_iff.mp q1).1
    exact ⟨c2, by rw [ho b hl]; exact q1, q2⟩
section XH
variable {l : Launch} {E : EN} {d : Nat} {M : MR} {pc : Nat} {lo : LO} {st : List Value} {h : CH} {Q : Outcome → CH → Prop}
theorem x_get {a k j idx : Nat} {f : Nat → Value} (hd : decode (mB M) pc = .ok (.getfield idx, 3)) (hq : LKf (mY M).cls idx j) (ha : h.2.2 a = some (.inl k, 0, f)) (hj : j ∈ CF k) (kk : Ex l E d M (pc + 3) lo (f j :: st) h Q) : Ex l E d M pc lo (.ref a :: st) h Q := by
  intro p e R s m args below meth c u C ls H locs cells slots hL hC
  obtain ⟨cell, hc1, hkN, hcl, hun, hstat, -, hfs⟩ := hC.1.2 a _ ha
  have hfs := hfs rfl
  have K := C.2.2.2.2.2.2.2.2.1
  have hown := C.2.2.2.2.2.1
  obtain ⟨cf, kf, fi, fd, hi, hsl⟩ := K.2.2.2.1 j (cf_lt hj)
  obtain ⟨hfc, kC, hkC, -⟩ := K.2.2.1 k hkN
  have hst := (u_facts hfc hkC (K.lays (args := #[]) hkN hj) hi).1
  have hv : cell.slots[fd.slot]? = some (f j) := by rw [hsl]; exact hfs j hj
  have k2 := kk p e R s m args below meth c u C ls H locs cells slots hL hC
  rcases hq with ⟨ref, h1, h2⟩ | ⟨ref, host, h1, h2⟩
  · exact W.getf C.1 C.2.1 hown (K.word h1) (K.same h2 hi) hst hc1 hun hv rfl rfl hd k2
  · exact va_Wgetf C.1 C.2.1 hown (K.nest h1 rfl rfl) (K.same h2 hi) hst hc1 hun hv rfl rfl hd k2
theorem x_put {a k j idx : Nat} {f : Nat → Value} {v : Value} (hd : decode (mB M) pc = .ok (.putfield idx, 3)) (hq : LKf (mY M).cls idx j) (ha : h.2.2 a = some (.inl k, 0, f)) (hj : j ∈ CF k) (hz : ez E ≤ a) (hfin : (FT j).2.2.2 = false ∨ ((FT j).1 = (mY M).cls ∧ (mY M).name = "<init>")) (hn : narrow (FY j) v = v) (hfit : fits (FY j) v = true)
    (kk : Ex l E d M (pc + 3) lo st (hset h a (.inl k, 0, vup f j v)) Q) : Ex l E d M pc lo (v :: .ref a :: st) h Q := by
  intro p e R s m args below meth c u C ls H locs cells slots hL hC
  obtain ⟨hR, hlo, hcs, hss⟩ := hC
  obtain ⟨cell, hc1, hkN, hcl, hun, hstat, hvm, hfs⟩ := hR.2 a _ ha
  have hfs := hfs rfl
  have hvm := hvm hz
  have K := C.2.2.2.2.2.2.2.2.1
  have hown := C.2.2.2.2.2.1
  have hname := C.2.2.2.2.2.2.1
  obtain ⟨cf, kf, fi, fd, hi, hsl⟩ := K.2.2.2.1 j (cf_lt hj)
  obtain ⟨hfc, kC, hkC, hkind⟩ := K.2.2.1 k hkN
  have hlay := K.lays (args := #[]) hkN hj
  have hst := (u_facts hfc hkC hlay hi).1
  have hfit2 := u_fits hfc hkC hkind hlay hi (ty_ok j (cf_lt hj)) hn hfit
  have hv : cell.slots[fd.slot]? = some (f j) := by rw [hsl]; exact hfs j hj
  have hlt := k2_hasslot hv
  have hal : a < H.size := (Array.getElem?_eq_some_iff.mp hc1).1
  have hfl : hasFlag fd.accessFlags Acc.final = false ∨ (m.cls = cf ∧ meth.name = "<init>") := by
    have hw := K.word (args := #[]) (cf_ok k hkN j hj)
    unfold layG at hw
    by_cases hf : (FT j).2.2.2 = true
    · rw [if_pos hf] at hw
      rcases hfin with h0 | ⟨h0, h1⟩
      · rw [h0] at hf; cases hf
      · right
        obtain ⟨_, _, c', _, _, _, -, -, hf', -, -, -, hown2, -⟩ := Cond.laysFinal_spec hw
        have e1 : c' = cf := by have := hi.symm.trans hf'; simp at this; exact this.1.symm
        rw [h0] at hown2
        exact ⟨by rw [← e1]; exact Option.some.inj (hown.symm.trans hown2), by rw [hname]; exact h1⟩
    · rw [if_neg hf] at hw
      left
      obtain ⟨_, _, _, _, _, _, -, -, hi', -, hfin', -⟩ := Cond.lays_spec hw
      have e1 := hi.symm.trans hi'
      cases e1
      exact hfin'
  have k2 : W p l e R s m args below meth c (H.setIfInBounds a (cell.setSlot fd.slot v)) (locs ++ [⟨a, fd.slot⟩]) cells slots (MX E below Q s u) (F0 m (pc + 3) ls st) := by
    refine kk p e R s m args below meth c u C ls _ _ cells slots hL ⟨hR.set (cell := cell.setSlot fd.slot v) hz (by simp [Array.getElem?_setIfInBounds, hal]) (by simp) (fun q hq => by simp [Array.getElem?_setIfInBounds, Ne.symm hq]) ?_, t_lc hlo hz, hcs, hss⟩
    refine ⟨hkN, hcl, hun, hstat, fun _ => hvm, fun _ i hi2 => ?_⟩
    show (cell.setSlot fd.slot v).slots[eS E i]? = some (vup f j v i)
    by_cases hij : i = j
    · subst hij
      rw [← hsl, slot_same hlt]
      simp [vup]
    · rw [slot_other (by rw [hsl]; exact fun z => K.apart hkN hj hi2 (Ne.symm hij) z), hfs i hi2]
      simp [vup, hij]
  rcases hq with ⟨ref, h1, h2⟩ | ⟨ref, host, h1, h2⟩
  · exact W.putf C.1 C.2.1 hown (K.word h1) (K.same h2 hi) hst hfl hc1 hun hlt hfit2.1 (by rw [hcl, hvm]; exact hfit2.2) rfl rfl hd k2
  · exact va_Wputf C.1 C.2.1 hown (K.nest h1 rfl rfl) (K.same h2 hi) hst hfl hc1 hun hlt hfit2.1 (by rw [hcl, hvm]; exact hfit2.2) rfl rfl hd k2
/-- a new object -/
theorem x_new {k idx : Nat} (hd : decode (mB M) pc = .ok (.new idx, 3)) (hk : k < NK) (hcl : Cond.classLink (mY M).cls idx (CN k) ∈ lw_all) (hin : Cond.initialized (CN k) ∈ lw_all) (h1 : h.1 + 1 ≤ eLc E) (h2 : h.2.1 + CZ k ≤ eLs E)
    (kk : Ex l E d M (pc + 3) lo (.ref h.1 :: st) (hpush h (.inl k, 0, fun j => defaultValue (FY j)) (CZ k)) Q) : Ex l E d M pc lo st h Q := by
  intro p e R s m args below meth c u C ls H locs cells slots hL hC
  obtain ⟨hR, hlo, hcs, hss⟩ := hC
  have K := C.2.2.2.2.2.2.2.2.1
  have hown := C.2.2.2.2.2.1
  obtain ⟨-, -, hrc, hrs, -⟩ := C.2.2.2.2.2.2.2.2.2
  obtain ⟨hfc, -⟩ := K.2.2.1 k hk
  refine W.newcK C.1 C.2.1 hown (K.word hcl) (K.word (ci_ok k hk)) (K.word hin) rfl hd (by omega) (by omega) hfc hR.1.1 fun H1 kC hkC e1 z1 o1 => ?_
  refine kk p e R s m args below meth c u C ls H1 locs (cells + 1) (slots + CZ k) hL ⟨hR.push h1 h2 e1 z1 o1 ?_, hlo, by show s.heap.size + (cells + 1) = h.1 + 1; omega, by show u + (slots + CZ k) = h.2.1 + CZ k; omega⟩
  refine ⟨hk, rfl, by simp [blank], rfl, fun _ => rfl, fun _ j hj => ?_⟩
  obtain ⟨cf, kf, fi, fd, hi, hsl⟩ := K.2.2.2.1 j (cf_lt hj)
  have h3 := (u_facts hfc hkC (K.lays (args := #[]) hk hj) hi).2.2
  rw [(State.fieldFound?_type hi (ty_ok j (cf_lt hj))).2] at h3
  rw [← hsl]
  exact k2_blank h3
end XH
