/-! THE MODEL: orders, what goes in and what comes out -/
/-- from n on the pile has the values; b is free -/
def MOk (b n md : Nat) (args : List Th) (s : MS) : Prop := MPl b n args s ∧ b ≤ 157600 ∧ n ≤ 8350 ∧ s.1 119 = nI md ∧ md ≤ 3000 ∧ s.1 123 = 0 ∧ ∀ t ∈ args, ZW t
def mop (b n md : Nat) (r : Nat ⊕ Th) (s s' : MS) : Prop := mfr J1 b n s s' ∧ match r with
  | .inl k => s'.1 119 = nI md ∧ s'.1 123 = nI k ∧ s'.1 124 = s.1 127 ∧ ∃ b', b ≤ b' ∧ b' ≤ b + 300 ∧ s'.1 105 = nI b'
  | .inr v => s'.1 119 = nI (md + zm v) ∧ ∃ b', b ≤ b' ∧ b' ≤ b + zm v ∧ s'.1 105 = nI b' ∧ (if 3000 < md + zm v ∧ ¬ zk v = 0 then s'.1 123 = 11 ∧ s'.1 124 = s.1 127 else s'.1 123 = 0 ∧ s'.1 124 = s.1 124 ∧ MPl b' n [v] s')
/-- on the way: what is on the pile by now -/
def MAcc (b n : Nat) (s0 : MS) (b1 : Nat) (vs : List Th) (s : MS) : Prop := mfr J0 b n s0 s ∧ b ≤ b1 ∧ MPl b1 n vs s
theorem MAcc.push {b n b1 : Nat} {s0 s : MS} {vs : List Th} (h : MAcc b n s0 b1 vs s) {k v : Int32} {t : Th} (ht : rmV (s.2.2.1 104) b1 k v t) (hn : n + vs.length < 8900) : MAcc b n s0 b1 (vs ++ [t]) (psh s (n + vs.length) k v) := ⟨h.1.trans (psh_fr J0 b s k v (by omega)), h.2.1, h.2.2.push ht hn⟩
theorem MAcc.pushI {b n b1 : Nat} {s0 s : MS} {vs : List Th} (h : MAcc b n s0 b1 vs s) (v : Int32) (hn : n + vs.length < 8900) : MAcc b n s0 b1 (vs ++ [zI v]) (psh s (n + vs.length) 0 v) := h.push (Or.inl ⟨rfl, rfl, rfl⟩) hn
theorem MAcc.sp {b n b1 : Nat} {s0 s : MS} {vs : List Th} (h : MAcc b n s0 b1 vs s) : s.1 108 = nI (n + vs.length) := h.2.2.2.2.2.1
theorem MAcc.rep {b n b1 : Nat} {s0 s : MS} {vs : List Th} (h : MAcc b n s0 b1 vs s) {t : Th} {p : Nat} (k : rmT (s0.2.2.1 104) b true t p 0) : rmT (s.2.2.1 104) b1 true t p 0 := (rmT_mono h.2.1 h.1.2.2.2.1 t).1 p 0 k
/-- the pile is taken down to n -/
theorem MOk.acc {b n md : Nat} {args : List Th} {s : MS} (h : MOk b n md args s) : MAcc b n s b [] (sI s 108 (nI n)) := ⟨mfr.sI J0 b n s 108 _, Nat.le_refl b, h.1.1, h.1.2.1, by have := h.2.2.1; show n + 0 ≤ 8900; omega, rfl, fun i hi => absurd hi (Nat.not_lt_zero i)⟩
theorem mopB.mop {b n md k b1 : Nat} {vs : List Th} {s s1 s' : MS} (hf : mfr J0 b n s s1) (hb : b ≤ b1) (hc : zgt (zof k vs) = false → b1 + 2 + (if k = 3 then 2 * vs.length else vs.length) ≤ b + zm (zof k vs)) (hx : b1 ≤ b + 300) (hk : k = 1 ∨ k = 2 ∨ k = 3) (h : mopB b1 n md k vs s1 s') : mop b n md (zmk (zof k vs)) s s' := by
  obtain ⟨h1, b', h2, h3, h4, h5⟩ := h
  have e127 := hf.1 127 (by decide)
  have e124 := hf.1 124 (by decide)
  have hk0 : ¬ zk (zof k vs) = 0 := by
    rcases hk with rfl | rfl | rfl
    · show ¬ 1 = 0; decide
    · show ¬ 2 = 0; decide
    · show ¬ 3 = 0; decide
  rw [e127, e124] at h5
  refine ⟨(hf.mono (J' := J1)).trans (h1.mono (hb := hb)), ?_⟩
  unfold zmk
  split at h5
  · rename_i hg
    rw [if_pos hg]
    exact ⟨h5.1, h5.2.1, h5.2.2.1, b', by omega, by rw [h5.2.2.2]; omega, h4⟩
  · rename_i hg
    rw [if_neg hg]
    have hg : zgt (zof k vs) = false := by simpa using hg
    refine ⟨h5.1, b', by omega, Nat.le_trans h3 (hc hg), h4, ?_⟩
    have h6 := h5.2
    split at h6
    · rename_i c
      rw [if_pos ⟨c, hk0⟩]; exact h6
    · rename_i c
      rw [if_neg (fun z => c z.1)]; exact h6
section MO1
variable {l : Launch} {E : EN} {w : MO} {d : Nat} {s : MS} {Q : Option Value → MS → Prop}
theorem M_kindAt (hst : l.stackTraces = false) {b n : Nat} {t : Th} (hv : rmV (s.2.2.1 104) b (s.2.2.1 106 n) (s.2.2.1 107 n) t) (hb : b ≤ 166300) (hn : n < 9000) (hQ : Q (some (.int (nI (zk t)))) s) : EvM l E w d MX10_kindAt [.ref w.1, .int (nI n)] s Q := by
  refine eX10_kindAt hst ?_
  rw [nI_clamp (by omega)]
  rcases hv with ⟨a1, a2, a3⟩ | ⟨a1, a2, q, a3, a4⟩
  · refine ⟨inB_n hn, fun c => absurd a2 c, fun _ => ?_⟩
    rw [a1] at hQ; exact hQ
  · have hh := rmT_head a4
    rw [a2, a3, nI_clamp (by omega), hh.2.1]
    exact ⟨inB_n hn, fun _ => ⟨inB_n hn, inB_n (by omega), hQ⟩, fun c => absurd c (by decide)⟩
/-- building, as the end of an order -/
theorem M_bmop (hst : l.stackTraces = false) {b n md k b1 : Nat} {vs : List Th} {s0 : MS} (ha : MAcc b n s0 b1 vs s) (hk : k = 1 ∨ k = 2 ∨ k = 3) (h1 : k = 1 → ∀ v ∈ vs, zk v = 0) (h2 : k = 2 → ∀ v ∈ vs, zk v = 1) (h3 : ∀ v ∈ vs, ZW v) (hb : b1 + 2000 ≤ 160000) (hn8 : n < 8900) (hmd : s0.1 119 = nI md) (hm3 : md ≤ 3000) (h0 : s0.1 123 = 0)
    (hc : zgt (zof k vs) = false → b1 + 2 + (if k = 3 then 2 * vs.length else vs.length) ≤ b + zm (zof k vs)) (hx : b1 ≤ b + 300) (hQ : ∀ s', mop b n md (zmk (zof k vs)) s0 s' → Q none s') : EvM l E w (d + 3) MX10_builds [.ref w.1, .int (nI k), .int (nI n)] s Q :=
  M_builds hst ha.2.2 hk h1 h2 h3 hb hn8 ((ha.1.1 119 (by decide)).trans hmd) hm3 ((ha.1.1 123 (by decide)).trans h0) (fun s' q => hQ s' (q.mop ha.1 ha.2.1 hc hx hk))
/-- a trouble, as the end of an order -/
theorem M_tmop (hst : l.stackTraces = false) {b n md k b1 : Nat} {s0 : MS} (hf : mfr J0 b n s0 s) (h105 : s.1 105 = nI b1) (hb : b ≤ b1) (hx : b1 ≤ b + 300) (hmd : s0.1 119 = nI md) (h0 : s0.1 123 = 0) {p : Int32} (hp : p = s0.1 127) {kk : Int32} (hkk : kk = nI k) (hQ : ∀ s', mop b n md (.inl k) s0 s' → Q none s') : EvM l E w d MX10_trouble [.ref w.1, .int kk, .int p] s Q := by
  refine M_trouble hst ((hf.1 123 (by decide)).trans h0) (hQ _ ⟨(hf.mono (J' := J1)).trans ((mfr.sI J1 b n s 123 _).trans (mfr.sI J1 b n _ 124 _)), (hf.1 119 (by decide)).trans hmd, hkk, hp, b1, hb, hx, h105⟩)
/-- an INT, as the end of an order -/
theorem MAcc.cell {b n b1 i : Nat} {s0 s : MS} {vs : List Th} (h : MAcc b n s0 b1 vs s) (hi : i < b) : s.2.2.1 104 i = s0.2.2.1 104 i := h.1.2.2.2.1 i hi
/-- the size of a thing that was there at the begin -/
theorem M_sizeA (hst : l.stackTraces = false) {b n b1 p : Nat} {s0 : MS} {vs : List Th} {t : Th} (ha : MAcc b n s0 b1 vs s) (k : rmT (s0.2.2.1 104) b true t p 0) (hb : b ≤ 166300) (hQ : Q (some (.int (nI (zn t)))) s) : EvM l E w d MX10_sizeAt [.ref w.1, .int (nI p)] s Q := by
  have hh := rmT_head k
  exact M_sizeAt hst (by omega) (by rw [ha.cell (by omega)]; exact hh.2.2.1) hQ
/-- part i of a table or pack that was there at the begin -/
theorem M_partA (hst : l.stackTraces = false) {b n b1 p i : Nat} {s0 : MS} {vs : List Th} {t : Th} (ha : MAcc b n s0 b1 vs s) (k : rmT (s0.2.2.1 104) b true t p 0) (hb : b ≤ 166300) (hi : i < zn t) (hk : 1 < zk t) (he : ¬ zk (zel t i) = 0) (hQ : ∀ q, rmT (s0.2.2.1 104) b true (zel t i) q 0 → Q (some (.int (nI q))) s) : EvM l E w d MX10_partAt [.ref w.1, .int (nI p), .int (nI i)] s Q := by
  have hh := rmT_head k
  rcases zk_c t with e | e | e | e
  · omega
  · omega
  · obtain ⟨g1, q, g2, g3, g4⟩ := rmT_tabAt e k hi
    exact M_partT hst (by rw [ha.cell (by omega), hh.2.1, e]; rfl) (by omega) (by rw [ha.cell (by omega)]; exact g2) (hQ q g3)
  · obtain ⟨g1, g2⟩ := rmT_packAt e k hi
    rcases g2 with ⟨g2, _⟩ | ⟨g2, g3, q, g4, g5⟩
    · exact absurd g2 he
    · exact M_partP hst (by rw [ha.cell (by omega), hh.2.1, e]; rfl) (by omega) (by rw [ha.cell (by omega)]; exact g4) (hQ q g5)
/-- a row's INT, of a row that was there at the begin -/
theorem MAcc.rowAt {b n b1 p i : Nat} {s0 s : MS} {vs : List Th} {a : List Int32} (ha : MAcc b n s0 b1 vs s) (k : rmT (s0.2.2.1 104) b true (zR a) p 0) (hi : i < a.length) : p + 3 + i ≤ b ∧ s.2.2.1 104 (p + 2 + i) = a.getD i 0 := by
  obtain ⟨h1, h2, h3, h4⟩ : rmI (s0.2.2.1 104) b p a := k
  exact ⟨by omega, by rw [ha.cell (by omega)]; exact h4 i hi⟩
/-- a thing on the pile -/
theorem rmV.thing {h : Nat → Int32} {b : Nat} {k v : Int32} {t : Th} (q : rmV h b k v t) (hk : ¬ zk t = 0) : k = 1 ∧ ∃ p, v = nI p ∧ rmT h b true t p 0 := by
  rcases q with ⟨a1, _⟩ | ⟨_, a2, p, a3, a4⟩
  · exact absurd a1 hk
  · exact ⟨a2, p, a3, a4⟩
theorem rmV.int {h : Nat → Int32} {b : Nat} {k v x : Int32} (q : rmV h b k v (zI x)) : k = 0 ∧ v = x := by
  rcases q with ⟨_, a2, a3⟩ | ⟨a1, _⟩
  · exact ⟨a2, a3⟩
  · exact absurd rfl a1
theorem MAcc.rowOf (hst : l.stackTraces = false) {b n b1 : Nat} {s0 : MS} {xs : List Th} {is : List Int32} (ha : MAcc b n s0 b1 (xs ++ is.map zI) s) (hb : b1 + 2 + is.length ≤ 160000) (hn : n + xs.length < 8900) (hQ : ∀ s', MAcc b n s0 (b1 + 2 + is.length) (xs ++ [zR is]) s' → Q none s') : EvM l E w (d + 1) MX10_rowOf [.ref w.1, .int (nI (n + xs.length))] s Q :=
  M_rowOf hst ha.2.2 hb hn (fun s' q1 q2 => hQ s' ⟨ha.1.trans (q1.mono (hb := ha.2.1)), by have := ha.2.1; omega, q2⟩)
end MO1
