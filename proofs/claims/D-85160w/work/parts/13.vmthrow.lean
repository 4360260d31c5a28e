/-! EXCEPTIONS THAT THE MACHINE THROWS ITSELF -/
def isq : Cond → Bool
  | .laysStatic a b c => decide ((a, b, c) = ("java/lang/Throwable", "UNASSIGNED_STACK", "[Ljava/lang/StackTraceElement;")) || decide ((a, b, c) = ("java/lang/Throwable", "SUPPRESSED_SENTINEL", "Ljava/util/List;"))
  | .isRef (.static a b c) => decide ((a, b, c) = ("java/lang/Throwable", "UNASSIGNED_STACK", "[Ljava/lang/StackTraceElement;")) || decide ((a, b, c) = ("java/lang/Throwable", "SUPPRESSED_SENTINEL", "Ljava/util/List;"))
  | _ => false
def okw (w : Cond) : Bool := (decide (w ∈ tables_1) && (goodWord w || (xw w && w.onTables))) || isq w
def upI : List String := ["java/lang/IndexOutOfBoundsException", "java/lang/RuntimeException", "java/lang/Exception"]
def upR : List String := ["java/lang/RuntimeException", "java/lang/Exception"]
theorem okI : (Bundle.messageArmAtoms "java/lang/ArrayIndexOutOfBoundsException" upI).all okw = true := by decide +kernel
theorem okA : (Bundle.messageArmAtoms "java/lang/ArithmeticException" upR).all okw = true := by decide +kernel
theorem okN : (Bundle.messageArmAtoms "java/lang/NegativeArraySizeException" upR).all okw = true := by decide +kernel
theorem ZF.lays {E : EN} {s : State} {args : Array Value} {i : Nat} {q : String × String × String} (hZ : ZF E s i q) (hR : ∀ q, q < ez E → s.heap[q]? = (eH E)[q]?) : (Cond.laysStatic q.1 q.2.1 q.2.2).before args s = true := by
  obtain ⟨c, k, fi, f, a, cell, h0, h1, h2, h3, h4, h5, h6, h7, h8, h9, h10, h11⟩ := hZ
  have hH : s.heap[a]? = some cell := by rw [hR a h5]; exact h6
  simp [Cond.before, Cond.holds, Cond.value, h0, h1, h4, hH, h2, h7, h8, h9, h10]
theorem ZF.ref {E : EN} {s : State} {args : Array Value} {i : Nat} {q : String × String × String} (hZ : ZF E s i q) (hR : ∀ q, q < ez E → s.heap[q]? = (eH E)[q]?) (hr : isR (eSV E i) = true) : (Cond.isRef (.static q.1 q.2.1 q.2.2)).before args s = true := by
  obtain ⟨c, k, fi, f, a, cell, h0, h1, h2, h3, h4, h5, h6, h7, h8, h9, h10, h11⟩ := hZ
  have hH : s.heap[a]? = some cell := by rw [hR a h5]; exact h6
  have he : (Term.static q.1 q.2.1 q.2.2).eval args s none [] s = some (eSV E i) := by
    simp [Term.eval, State.fieldNamed?, h1, h2, h4, hH, h7, h11]
  simp only [Cond.before, Cond.holds, Cond.value, he]
  cases hv : eSV E i with
  | ref a => rfl
  | null => rfl
  | _ => rw [hv] at hr; cases hr
theorem KX.okword {E : EN} {s : State} {args : Array Value} (K : KX E s) (hR : ∀ q, q < ez E → s.heap[q]? = (eH E)[q]?) {w : Cond} (hw : okw w = true) : w.before args s = true := by
  unfold okw at hw
  simp only [Bool.or_eq_true, Bool.and_eq_true, decide_eq_true_eq] at hw
  rcases hw with ⟨hm, hg | ⟨hx, ht⟩⟩ | hq
  · exact K.word (lw_g (show w ∈ k2_sels lw_privs ++ tables_1 from List.mem_append_right _ hm) hg)
  · exact K.nest (show w ∈ k2_sels lw_privs ++ tables_1 from List.mem_append_right _ hm) hx ht
  · cases w with
    | laysStatic a b c =>
      simp only [isq, Bool.or_eq_true, decide_eq_true_eq] at hq
      rcases hq with e | e
      · cases e; exact (K.2.2.2.2.2.2.1 5 _ rfl).lays hR
      · cases e; exact (K.2.2.2.2.2.2.1 4 _ rfl).lays hR
    | isRef t =>
      cases t with
      | static a b c =>
        simp only [isq, Bool.or_eq_true, decide_eq_true_eq] at hq
        rcases hq with e | e
        · cases e; exact (K.2.2.2.2.2.2.1 5 _ rfl).ref hR K.2.2.2.2.2.2.2.1.2.1
        · cases e; exact (K.2.2.2.2.2.2.1 4 _ rfl).ref hR K.2.2.2.2.2.2.2.1.1
      | _ => simp [isq] at hq
    | _ => simp [isq] at hq
