/-! RULES OF THE COMPONENT'S WORLD as the printer uses them -/
def KP (o : KO) (A : Option Value → Prop) (B : Nat → Prop) : Prop := match o with
  | .inl r => A r
  | .inr k => B k
/-- an object of a class, in all else -/
def oc (f : RH) (a k : Nat) : Prop := tg f a = some (.inl k) ∧ ln f a = 0
theorem isR_cases {v : Value} (h : isR v = true) : v = .null ∨ ∃ a : Nat, v = .ref a := by
  cases v with
  | null => exact Or.inl rfl
  | ref a => exact Or.inr ⟨a, rfl⟩
  | int _ => cases h
  | long _ => cases h
  | float _ => cases h
  | double _ => cases h
  | retAddr _ => cases h
def TK : List Nat := [29, 30, 31, 32]
theorem CW.ocell {E : EN} {w : CO} {s : CS} {f : RH} {h : CH} (hW : CW E w s f h) {a k : Nat} (ht : oc f a k) : ∃ c, h.2.2 a = some (.inl k, 0, c) := by
  obtain ⟨c, g, -⟩ := hW.cell ht.1
  rw [ht.2] at g
  exact ⟨c, g⟩
section CG
variable {l : Launch} {E : EN} {w : CO} {d : Nat} {M : MR} {pc : Nat} {lo : LO} {st : List Value} {s : CS} {f f0 : RH} {h : CH} {Q : Outcome → CH → Prop}
theorem c_fputG {a k j idx : Nat} {v : Value} (hd : decode (mB M) pc = .ok (.putfield idx, 3)) (hq : LKf (mY M).cls idx j) (ht : oc f a k) (hj : j ∈ CF k) (h30 : k ≠ 30) (hb : f.2.2.2 ≤ a) (hfin : (FT j).2.2.2 = false ∨ ((FT j).1 = (mY M).cls ∧ (mY M).name = "<init>")) (hn : narrow (FY j) v = v) (hfit : fits (FY j) v = true) (hW : CW E w s f h) (hF : Frz f0 f)
    (kk : ∀ f1, f1 = fset f a j v → ∀ h, CW E w s f1 h → Frz f0 f1 → Ex l E d M (pc + 3) lo st h Q) : Ex l E d M pc lo (v :: .ref a :: st) h Q := c_fput hd hq ht.1 ht.2 hj h30 hb hfin hn hfit hW hF (kk _ rfl)
theorem c_fgetG {a k j idx : Nat} (hd : decode (mB M) pc = .ok (.getfield idx, 3)) (hq : LKf (mY M).cls idx j) (ht : oc f a k) (hj : j ∈ CF k) (h30 : k = 30 → j = 204) (hW : CW E w s f h) {v : Value} (hv : vl f a j = v) (kk : Ex l E d M (pc + 3) lo (v :: st) h Q) : Ex l E d M pc lo (.ref a :: st) h Q := c_fget hd hq ht.1 ht.2 hj h30 hW hv kk
theorem c_fiastG {a : Nat} {i v : Int32} (hd : decode (mB M) pc = .ok (.iastore, 1)) (ht : tg f a = some (.inr 0)) (hb : inB i (ln f a)) (hz : f.2.2.2 ≤ a) (hW : CW E w s f h) (hF : Frz f0 f) (kk : ∀ f1, f1 = fset f a i.toNatClampNeg (.int v) → ∀ h, CW E w s f1 h → Frz f0 f1 → Ex l E d M (pc + 1) lo st h Q) : Ex l E d M pc lo (.int v :: .int i :: .ref a :: st) h Q := c_fiast hd ht hb hz hW hF (kk _ rfl)
theorem c_flastG {a : Nat} {i : Int32} {v : Int64} (hd : decode (mB M) pc = .ok (.lastore, 1)) (ht : tg f a = some (.inr 1)) (hb : inB i (ln f a)) (hz : f.2.2.2 ≤ a) (hW : CW E w s f h) (hF : Frz f0 f) (kk : ∀ f1, f1 = fset f a i.toNatClampNeg (.long v) → ∀ h, CW E w s f1 h → Frz f0 f1 → Ex l E d M (pc + 1) lo st h Q) : Ex l E d M pc lo (.long v :: .int i :: .ref a :: st) h Q := c_flast hd ht hb hz hW hF (kk _ rfl)
/-- classes whose objects may lie in an array of a type -/
def CKs (t : Nat) : List Nat := if t = 4 then [29, 30, 31, 32] else if t = 5 then [15, 16, 18, 19, 20, 21, 22, 23] else if t = 6 then [14, 24, 25, 26, 27, 28] else if t = 7 then [12] else if t = 8 then [19] else []
theorem CKs_okB : [4, 5, 6, 7, 8].all (fun t => (CKs t).all (fun k => decide ((match AT t with | .object C => C | _ => "") = CN k) || decide (Cond.castable (CN k) (match AT t with | .object C => C | _ => "") ∈ lw_tbl))) = true := by decide +kernel
theorem CKs_ok {t k : Nat} (ht : t ∈ [4, 5, 6, 7, 8]) (hk : k ∈ CKs t) : ∃ C0, AT t = .object C0 ∧ CKy k C0 := by
  have h1 := List.all_eq_true.mp (List.all_eq_true.mp CKs_okB t ht) k hk
  have h2 : ∃ C0, AT t = .object C0 := by
    simp only [List.mem_cons, List.not_mem_nil, or_false] at ht
    rcases ht with rfl | rfl | rfl | rfl | rfl <;> exact ⟨_, rfl⟩
  obtain ⟨C0, h2⟩ := h2
  refine ⟨C0, h2, ?_⟩
  rw [h2] at h1
  simp only [Bool.or_eq_true, decide_eq_true_eq] at h1
  exact h1
theorem c_faastG {a t b k : Nat} {i : Int32} (hd : decode (mB M) pc = .ok (.aastore, 1)) (ht : tg f a = some (.inr t)) (hat : t ∈ [4, 5, 6, 7, 8]) (hv : tg f b = some (.inl k)) (hck : k ∈ CKs t) (hb : inB i (ln f a)) (hz : f.2.2.2 ≤ a) (hW : CW E w s f h) (hF : Frz f0 f) (kk : ∀ f1, f1 = fset f a i.toNatClampNeg (.ref b) → ∀ h, CW E w s f1 h → Frz f0 f1 → Ex l E d M (pc + 1) lo st h Q) : Ex l E d M pc lo (.ref b :: .int i :: .ref a :: st) h Q := by
  obtain ⟨C0, h1, h2⟩ := CKs_ok hat hck
  exact c_faast hd ht h1 hv h2 hb hz hW hF (kk _ rfl)
theorem c_faastAG {a b : Nat} {i : Int32} (hd : decode (mB M) pc = .ok (.aastore, 1)) (ht : tg f a = some (.inr 11)) (hv : tg f b = some (.inr 0)) (hzb : ez E ≤ b) (hb : inB i (ln f a)) (hz : f.2.2.2 ≤ a) (hW : CW E w s f h) (hF : Frz f0 f) (kk : ∀ f1, f1 = fset f a i.toNatClampNeg (.ref b) → ∀ h, CW E w s f1 h → Frz f0 f1 → Ex l E d M (pc + 1) lo st h Q) : Ex l E d M pc lo (.ref b :: .int i :: .ref a :: st) h Q := c_faastA hd ht hv hzb hb hz hW hF (kk _ rfl)
theorem c_newG {k idx : Nat} (hd : decode (mB M) pc = .ok (.new idx, 3)) (hk : k < NK) (hcl : Cond.classLink (mY M).cls idx (CN k) ∈ lw_all) (hin : Cond.initialized (CN k) ∈ lw_all) (hr : rmF E f 1 (CZ k)) (hW : CW E w s f h) (hF : Frz f0 f)
    (kk : ∀ a f1, a = f.1 → f1 = fnew f k → ∀ h, CW E w s f1 h → Frz f0 f1 → Ex l E d M (pc + 3) lo (.ref a :: st) h Q) : Ex l E d M pc lo st h Q := c_new hd hk (fun _ => by decide +kernel) hcl hin hr hW hF (kk _ _ rfl rfl)
theorem c_newarrayG {at0 : ArrayType} {t : Nat} {n : Int32} (hd : decode (mB M) pc = .ok (.newarray at0, 2)) (ht : t < 4) (hat : newarray.typeOf at0 = AT t) (hn : ¬ n < 0) (hb : n.toNatClampNeg ≤ 60000000) (hr : rmF E f 1 n.toNatClampNeg) (hW : CW E w s f h) (hF : Frz f0 f)
    (kk : ∀ a f1, a = f.1 → f1 = fnewA f t n.toNatClampNeg → ∀ h, CW E w s f1 h → Frz f0 f1 → Ex l E d M (pc + 2) lo (.ref a :: st) h Q) : Ex l E d M pc lo (.int n :: st) h Q := c_newarray hd ht hat hn hb hr hW hF (kk _ _ rfl rfl)
theorem c_anewarrayG {idx t : Nat} {n : Int32} (hd : decode (mB M) pc = .ok (.anewarray idx, 3)) (ht : t < NA) (h9 : t ≠ 9) (h4 : 4 ≤ t) (hdv : defaultValue (AT t) = .null) (hov : Cond.arrayOver (AT t) ∈ lw_tbl)
    (hcl : (∃ C, AT t = .object C ∧ Cond.classLink (mY M).cls idx C ∈ lw_all) ∨ (∃ t0, AT t = .array t0 ∧ Cond.classLink (mY M).cls idx (FieldType.array t0).toString ∈ lw_all)) (hn : ¬ n < 0) (hb : n.toNatClampNeg ≤ 60000000) (hr : rmF E f 1 n.toNatClampNeg) (hW : CW E w s f h) (hF : Frz f0 f)
    (kk : ∀ a f1, a = f.1 → f1 = fnewA f t n.toNatClampNeg → ∀ h, CW E w s f1 h → Frz f0 f1 → Ex l E d M (pc + 3) lo (.ref a :: st) h Q) : Ex l E d M pc lo (.int n :: st) h Q := c_anewarray hd ht h9 h4 hdv hov hcl hn hb hr hW hF (kk _ _ rfl rfl)
/-! instanceof, casts -/
theorem inst_okB : TK.all (fun k => TK.all (fun K => decide (k = K) || decide ((CN k, CN K) ∈ NCL))) = true := by decide +kernel
theorem inst_ok {k K : Nat} (h1 : k ∈ TK) (h2 : K ∈ TK) (hne : k ≠ K) : (CN k, CN K) ∈ NCL := by
  have h := List.all_eq_true.mp (List.all_eq_true.mp inst_okB k h1) K h2
  simp only [Bool.or_eq_true, decide_eq_true_eq] at h
  exact h.resolve_left hne
theorem isT.tk {f : RH} {a : Nat} (h : isT f (.ref a)) : ∃ k, k ∈ TK ∧ tg f a = some (.inl k) := by
  rcases h with e | ⟨b, e, q⟩
  · cases e
  · cases e
    rcases q with q | q | q | q
    · exact ⟨29, by decide, q⟩
    · exact ⟨30, by decide, q⟩
    · exact ⟨31, by decide, q⟩
    · exact ⟨32, by decide, q⟩
theorem c_inst {a K idx : Nat} (hd : decode (mB M) pc = .ok (.instanceof idx, 3)) (hK : K ∈ TK) (hq : Cond.classLink (mY M).cls idx (CN K) ∈ lw_all) (ht : isT f (.ref a)) (hW : CW E w s f h) (k1 : tg f a = some (.inl K) → Ex l E d M (pc + 3) lo (.int 1 :: st) h Q) (k0 : ¬ tg f a = some (.inl K) → Ex l E d M (pc + 3) lo (.int 0 :: st) h Q) : Ex l E d M pc lo (.ref a :: st) h Q := by
  obtain ⟨k, hk, e⟩ := ht.tk
  obtain ⟨c, g, -⟩ := hW.cell e
  by_cases hkK : k = K
  · subst hkK
    exact x_instY hd hq g (Or.inl rfl) (k1 e)
  · refine x_instN hd hq g (inst_ok hk hK hkK) (k0 fun z => ?_)
    rw [e] at z
    cases z
    exact hkK rfl
theorem c_instV {v : Value} {K idx : Nat} (hd : decode (mB M) pc = .ok (.instanceof idx, 3)) (hK : K ∈ TK) (hq : Cond.classLink (mY M).cls idx (CN K) ∈ lw_all) (ht : isT f v) (hW : CW E w s f h) (k1 : ∀ a, v = .ref a → tg f a = some (.inl K) → Ex l E d M (pc + 3) lo (.int 1 :: st) h Q) (k0 : (∀ a, v = .ref a → ¬ tg f a = some (.inl K)) → Ex l E d M (pc + 3) lo (.int 0 :: st) h Q) : Ex l E d M pc lo (v :: st) h Q := by
  rcases ht with rfl | ⟨a, rfl, q⟩
  · exact x_inst0 hd (k0 fun a e => by cases e)
  · refine c_inst hd hK hq (Or.inr ⟨a, rfl, q⟩) hW (k1 a rfl) (fun e => k0 fun b eb => ?_)
    cases eb; exact e
theorem c_cast {a K idx : Nat} (hd : decode (mB M) pc = .ok (.checkcast idx, 3)) (hq : Cond.classLink (mY M).cls idx (CN K) ∈ lw_all) (ht : tg f a = some (.inl K)) (hW : CW E w s f h) (kk : Ex l E d M (pc + 3) lo (.ref a :: st) h Q) : Ex l E d M pc lo (.ref a :: st) h Q := by
  obtain ⟨c, g, -⟩ := hW.cell ht
  exact x_castY hd hq g (Or.inl rfl) kk
/-! what the machine throws -/
theorem c_fialdX {a : Nat} {i : Int32} (hd : decode (mB M) pc = .ok (.iaload, 1)) (ht : tg f a = some (.inr 0)) (hn : ln f a < 2 ^ 31) (ho : ¬ inB i (ln f a)) (hr : rmF E f 3 222) (hw : (st.map fun v => v.category).sum ≤ 20) (hLm : lo.length = mL M) (hW : CW E w s f h) (hF : Frz f0 f) (kk : ∀ f1, f1 = fexc f → ∀ h a, CW E w s f1 h → xA w h 35 a → Frz f0 f1 → ExT l E d M pc lo st a h Q) : Ex l E d M pc lo (.int i :: .ref a :: st) h Q := by
  obtain ⟨c, g, -⟩ := hW.cell ht
  refine x_ialoadOut hd g hn ?_ hw hLm (hW.room hr).1 (hW.room hr).2 (kk _ rfl _ _ (hW.exc 35) (xA.mk 35 (Or.inl rfl) h) (hF.trans (Frz.exc f)))
  by_cases hi : i < 0
  · exact Or.inl hi
  · exact Or.inr (Nat.le_of_not_lt fun z => ho ⟨hi, z⟩)
theorem c_faaldX {a t : Nat} {i : Int32} (hd : decode (mB M) pc = .ok (.aaload, 1)) (ht : tg f a = some (.inr t)) (hn : ln f a < 2 ^ 31) (ho : ¬ inB i (ln f a)) (hr : rmF E f 3 222) (hw : (st.map fun v => v.category).sum ≤ 20) (hLm : lo.length = mL M) (hW : CW E w s f h) (hF : Frz f0 f) (kk : ∀ f1, f1 = fexc f → ∀ h a, CW E w s f1 h → xA w h 35 a → Frz f0 f1 → ExT l E d M pc lo st a h Q) : Ex l E d M pc lo (.int i :: .ref a :: st) h Q := by
  obtain ⟨c, g, -⟩ := hW.cell ht
  refine x_aaloadOut hd g hn ?_ hw hLm (hW.room hr).1 (hW.room hr).2 (kk _ rfl _ _ (hW.exc 35) (xA.mk 35 (Or.inl rfl) h) (hF.trans (Frz.exc f)))
  by_cases hi : i < 0
  · exact Or.inl hi
  · exact Or.inr (Nat.le_of_not_lt fun z => ho ⟨hi, z⟩)
theorem c_fiastX {a : Nat} {i v : Int32} (hd : decode (mB M) pc = .ok (.iastore, 1)) (ht : tg f a = some (.inr 0)) (hn : ln f a < 2 ^ 31) (ho : ¬ inB i (ln f a)) (hr : rmF E f 3 222) (hw : (st.map fun v => v.category).sum ≤ 20) (hLm : lo.length = mL M) (hW : CW E w s f h) (hF : Frz f0 f) (kk : ∀ f1, f1 = fexc f → ∀ h a, CW E w s f1 h → xA w h 35 a → Frz f0 f1 → ExT l E d M pc lo st a h Q) : Ex l E d M pc lo (.int v :: .int i :: .ref a :: st) h Q := by
  obtain ⟨c, g, -⟩ := hW.cell ht
  refine x_iastoreOut hd g hn ?_ hw hLm (hW.room hr).1 (hW.room hr).2 (kk _ rfl _ _ (hW.exc 35) (xA.mk 35 (Or.inl rfl) h) (hF.trans (Frz.exc f)))
  by_cases hi : i < 0
  · exact Or.inl hi
  · exact Or.inr (Nat.le_of_not_lt fun z => ho ⟨hi, z⟩)
theorem c_faastX {a t : Nat} {i : Int32} {v : Value} (hd : decode (mB M) pc = .ok (.aastore, 1)) (hv : isR v = true) (ht : tg f a = some (.inr t)) (hn : ln f a < 2 ^ 31) (ho : ¬ inB i (ln f a)) (hr : rmF E f 3 222) (hw : (st.map fun v => v.category).sum ≤ 20) (hLm : lo.length = mL M) (hW : CW E w s f h) (hF : Frz f0 f) (kk : ∀ f1, f1 = fexc f → ∀ h a, CW E w s f1 h → xA w h 35 a → Frz f0 f1 → ExT l E d M pc lo st a h Q) : Ex l E d M pc lo (v :: .int i :: .ref a :: st) h Q := by
  obtain ⟨c, g, -⟩ := hW.cell ht
  refine x_aastoreOut hd hv g hn ?_ hw hLm (hW.room hr).1 (hW.room hr).2 (kk _ rfl _ _ (hW.exc 35) (xA.mk 35 (Or.inl rfl) h) (hF.trans (Frz.exc f)))
  by_cases hi : i < 0
  · exact Or.inl hi
  · exact Or.inr (Nat.le_of_not_lt fun z => ho ⟨hi, z⟩)
theorem c_idivX {x : Int32} (hd : decode (mB M) pc = .ok (.idiv, 1)) (hr : rmF E f 3 222) (hw : (st.map fun v => v.category).sum ≤ 20) (hLm : lo.length = mL M) (hW : CW E w s f h) (hF : Frz f0 f) (kk : ∀ f1, f1 = fexc f → ∀ h a, CW E w s f1 h → xA w h 36 a → Frz f0 f1 → ExT l E d M pc lo st a h Q) : Ex l E d M pc lo (.int 0 :: .int x :: st) h Q := by
  exact x_idiv0 hd hw hLm (hW.room hr).1 (hW.room hr).2 (kk _ rfl _ _ (hW.exc 36) (xA.mk 36 (Or.inr (Or.inl rfl)) h) (hF.trans (Frz.exc f)))
theorem c_iremX {x : Int32} (hd : decode (mB M) pc = .ok (.irem, 1)) (hr : rmF E f 3 222) (hw : (st.map fun v => v.category).sum ≤ 20) (hLm : lo.length = mL M) (hW : CW E w s f h) (hF : Frz f0 f) (kk : ∀ f1, f1 = fexc f → ∀ h a, CW E w s f1 h → xA w h 36 a → Frz f0 f1 → ExT l E d M pc lo st a h Q) : Ex l E d M pc lo (.int 0 :: .int x :: st) h Q := by
  exact x_irem0 hd hw hLm (hW.room hr).1 (hW.room hr).2 (kk _ rfl _ _ (hW.exc 36) (xA.mk 36 (Or.inr (Or.inl rfl)) h) (hF.trans (Frz.exc f)))
theorem c_newarrayX {at0 : ArrayType} {n : Int32} (hd : decode (mB M) pc = .ok (.newarray at0, 2)) (hn : n < 0) (hr : rmF E f 3 222) (hw : (st.map fun v => v.category).sum ≤ 20) (hLm : lo.length = mL M) (hW : CW E w s f h) (hF : Frz f0 f) (kk : ∀ f1, f1 = fexc f → ∀ h a, CW E w s f1 h → xA w h 37 a → Frz f0 f1 → ExT l E d M pc lo st a h Q) : Ex l E d M pc lo (.int n :: st) h Q := by
  exact x_newarrayNeg hd hn hw hLm (hW.room hr).1 (hW.room hr).2 (kk _ rfl _ _ (hW.exc 37) (xA.mk 37 (Or.inr (Or.inr rfl)) h) (hF.trans (Frz.exc f)))
end CG
