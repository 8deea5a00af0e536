set_option maxRecDepth 100000
/-! a town as a pair of tables: numbers (0 streets 1 houses 2 shakes 3 coin 4 shut 5 daypart 6 purse 7 year 8 gone 9 seed), rows (0 sideA 1 sideB 2 chance 3 hard 4 corner 5 weak 6 day 7 night 8 cost 9 front 10 next 11 steps 12 propped) -/
abbrev Tw : Type := (Nat → Int32) × (Nat → Nat → Int32)
def Rg (lo hi : Int) (x : Int32) : Prop := lo ≤ x.toInt ∧ x.toInt ≤ hi
def setS (T : Tw) (k : Nat) (v : Int32) : Tw := (up1 T.1 k v, T.2)
def setA (T : Tw) (a i : Nat) (v : Int32) : Tw := (T.1, up2 T.2 a i v)
def HOK (T : Tw) (s n i : Nat) : Prop := Rg 0 7 (T.2 4 i) ∧ Rg 0 9 (T.2 5 i) ∧ Rg 0 99 (T.2 6 i) ∧ Rg 0 99 (T.2 7 i) ∧ Rg 1 99 (T.2 8 i) ∧ Rg (-1) ((s : Int) - 1) (T.2 9 i) ∧ Rg (-1) ((n : Int) - 1) (T.2 10 i) ∧ Rg 0 2 (T.2 11 i) ∧ Rg 0 1 (T.2 12 i)
def TOK (T : Tw) (s n k : Nat) : Prop := (T.1 0 = nI s ∧ s ≤ 12) ∧ (T.1 1 = nI n ∧ n ≤ 10) ∧ (T.1 2 = nI k ∧ k ≤ 4) ∧ (Rg 1 999 (T.1 3) ∧ Rg 0 10 (T.1 4) ∧ Rg 0 10 (T.1 5)) ∧ (∀ i, i < s → Rg 0 7 (T.2 0 i) ∧ Rg 0 7 (T.2 1 i)) ∧ (∀ i, i < k → Rg 0 99 (T.2 2 i) ∧ Rg 0 9 (T.2 3 i)) ∧ ∀ i, i < n → HOK T s n i
theorem up2_ap {α : Type} {f : Nat → Nat → α} {i k a b : Nat} {v : α} : up2 f i k v a b = if a = i ∧ b = k then v else f a b := rfl
theorem up1_ap {α : Type} {f : Nat → α} {k b : Nat} {v : α} : up1 f k v b = if b = k then v else f b := rfl
theorem Rg.ix {x : Int32} {N : Nat} {hi : Int} (h : Rg 0 hi x) (hN : hi < N) : x = nI x.toNatClampNeg ∧ x.toNatClampNeg < N := by
  obtain ⟨h1, h2⟩ := h
  have e : x.toNatClampNeg = x.toInt.toNat := rfl
  refine ⟨?_, by omega⟩
  apply Int32.toInt_inj.mp
  have hb := Int32.toInt_lt x
  rw [nI_toInt (by omega)]
  omega
theorem Rg.ix1 {x : Int32} {N : Nat} {hi : Int} (h : Rg (-1) hi x) (hN : hi < N) (hx : ¬ x = -1) : x = nI x.toNatClampNeg ∧ x.toNatClampNeg < N := by
  refine Rg.ix (hi := hi) ⟨?_, h.2⟩ hN
  have h1 := h.1
  have : x.toInt ≠ -1 := fun q => hx (Int32.toInt_inj.mp (by rw [q]; rfl))
  omega
theorem Rg.mono {a b c d : Int} {x : Int32} (h : Rg a b x) (h1 : c ≤ a) (h2 : b ≤ d) : Rg c d x := ⟨Int.le_trans h1 h.1, Int.le_trans h.2 h2⟩
theorem rgN {n : Nat} {a b : Int} (h : n < 2 ^ 31) (h1 : a ≤ n) (h2 : (n : Int) ≤ b) : Rg a b (nI n) := by
  unfold Rg
  rw [nI_toInt h]
  exact ⟨h1, h2⟩
def cn (s n k a : Nat) : Nat := if a < 2 then s else if a < 4 then k else n
/-- the model's town -/
def MTw (m : Nat) (h : Hp) (T : Tw) (s n k : Nat) : Prop := TOK T s n k ∧ (∀ j, j < 10 → Fi h (29 + j) m = T.1 j) ∧ ∀ a i, a < 13 → i < cn s n k a → Ai h (m + (2 + a)) i = T.2 a i
theorem MTw.streets_ {m : Nat} {h : Hp} {T : Tw} {s n k : Nat} (t : MTw m h T s n k) : Fi h 29 m = T.1 0 := t.2.1 0 (by decide)
theorem MTw.houses_ {m : Nat} {h : Hp} {T : Tw} {s n k : Nat} (t : MTw m h T s n k) : Fi h 30 m = T.1 1 := t.2.1 1 (by decide)
theorem MTw.shakes_ {m : Nat} {h : Hp} {T : Tw} {s n k : Nat} (t : MTw m h T s n k) : Fi h 31 m = T.1 2 := t.2.1 2 (by decide)
theorem MTw.coin_ {m : Nat} {h : Hp} {T : Tw} {s n k : Nat} (t : MTw m h T s n k) : Fi h 32 m = T.1 3 := t.2.1 3 (by decide)
theorem MTw.shut_ {m : Nat} {h : Hp} {T : Tw} {s n k : Nat} (t : MTw m h T s n k) : Fi h 33 m = T.1 4 := t.2.1 4 (by decide)
theorem MTw.daypart_ {m : Nat} {h : Hp} {T : Tw} {s n k : Nat} (t : MTw m h T s n k) : Fi h 34 m = T.1 5 := t.2.1 5 (by decide)
theorem MTw.purse_ {m : Nat} {h : Hp} {T : Tw} {s n k : Nat} (t : MTw m h T s n k) : Fi h 35 m = T.1 6 := t.2.1 6 (by decide)
theorem MTw.year_ {m : Nat} {h : Hp} {T : Tw} {s n k : Nat} (t : MTw m h T s n k) : Fi h 36 m = T.1 7 := t.2.1 7 (by decide)
theorem MTw.gone_ {m : Nat} {h : Hp} {T : Tw} {s n k : Nat} (t : MTw m h T s n k) : Fi h 37 m = T.1 8 := t.2.1 8 (by decide)
theorem MTw.seed_ {m : Nat} {h : Hp} {T : Tw} {s n k : Nat} (t : MTw m h T s n k) : Fi h 38 m = T.1 9 := t.2.1 9 (by decide)
theorem MTw.sideA_ {m : Nat} {h : Hp} {T : Tw} {s n k : Nat} (t : MTw m h T s n k) {i : Nat} (hi : i < s) : Ai h (m + 2) i = T.2 0 i := t.2.2 0 i (by decide) hi
theorem MTw.sideB_ {m : Nat} {h : Hp} {T : Tw} {s n k : Nat} (t : MTw m h T s n k) {i : Nat} (hi : i < s) : Ai h (m + 3) i = T.2 1 i := t.2.2 1 i (by decide) hi
theorem MTw.chance_ {m : Nat} {h : Hp} {T : Tw} {s n k : Nat} (t : MTw m h T s n k) {i : Nat} (hi : i < k) : Ai h (m + 4) i = T.2 2 i := t.2.2 2 i (by decide) hi
theorem MTw.hard_ {m : Nat} {h : Hp} {T : Tw} {s n k : Nat} (t : MTw m h T s n k) {i : Nat} (hi : i < k) : Ai h (m + 5) i = T.2 3 i := t.2.2 3 i (by decide) hi
theorem MTw.corner_ {m : Nat} {h : Hp} {T : Tw} {s n k : Nat} (t : MTw m h T s n k) {i : Nat} (hi : i < n) : Ai h (m + 6) i = T.2 4 i := t.2.2 4 i (by decide) hi
theorem MTw.weak_ {m : Nat} {h : Hp} {T : Tw} {s n k : Nat} (t : MTw m h T s n k) {i : Nat} (hi : i < n) : Ai h (m + 7) i = T.2 5 i := t.2.2 5 i (by decide) hi
theorem MTw.day_ {m : Nat} {h : Hp} {T : Tw} {s n k : Nat} (t : MTw m h T s n k) {i : Nat} (hi : i < n) : Ai h (m + 8) i = T.2 6 i := t.2.2 6 i (by decide) hi
theorem MTw.night_ {m : Nat} {h : Hp} {T : Tw} {s n k : Nat} (t : MTw m h T s n k) {i : Nat} (hi : i < n) : Ai h (m + 9) i = T.2 7 i := t.2.2 7 i (by decide) hi
theorem MTw.cost_ {m : Nat} {h : Hp} {T : Tw} {s n k : Nat} (t : MTw m h T s n k) {i : Nat} (hi : i < n) : Ai h (m + 10) i = T.2 8 i := t.2.2 8 i (by decide) hi
theorem MTw.front_ {m : Nat} {h : Hp} {T : Tw} {s n k : Nat} (t : MTw m h T s n k) {i : Nat} (hi : i < n) : Ai h (m + 11) i = T.2 9 i := t.2.2 9 i (by decide) hi
theorem MTw.next_ {m : Nat} {h : Hp} {T : Tw} {s n k : Nat} (t : MTw m h T s n k) {i : Nat} (hi : i < n) : Ai h (m + 12) i = T.2 10 i := t.2.2 10 i (by decide) hi
theorem MTw.steps_ {m : Nat} {h : Hp} {T : Tw} {s n k : Nat} (t : MTw m h T s n k) {i : Nat} (hi : i < n) : Ai h (m + 13) i = T.2 11 i := t.2.2 11 i (by decide) hi
theorem MTw.propped_ {m : Nat} {h : Hp} {T : Tw} {s n k : Nat} (t : MTw m h T s n k) {i : Nat} (hi : i < n) : Ai h (m + 14) i = T.2 12 i := t.2.2 12 i (by decide) hi
theorem MTw.nS {m : Nat} {h : Hp} {T : Tw} {s n k : Nat} (t : MTw m h T s n k) : Fi h 29 m = nI s := t.streets_.trans t.1.1.1
theorem MTw.nH {m : Nat} {h : Hp} {T : Tw} {s n k : Nat} (t : MTw m h T s n k) : Fi h 30 m = nI n := t.houses_.trans t.1.2.1.1
theorem MTw.nK {m : Nat} {h : Hp} {T : Tw} {s n k : Nat} (t : MTw m h T s n k) : Fi h 31 m = nI k := t.shakes_.trans t.1.2.2.1.1
theorem MTw.s12 {m : Nat} {h : Hp} {T : Tw} {s n k : Nat} (t : MTw m h T s n k) : s ≤ 12 := t.1.1.2
theorem MTw.n10 {m : Nat} {h : Hp} {T : Tw} {s n k : Nat} (t : MTw m h T s n k) : n ≤ 10 := t.1.2.1.2
theorem MTw.k4 {m : Nat} {h : Hp} {T : Tw} {s n k : Nat} (t : MTw m h T s n k) : k ≤ 4 := t.1.2.2.1.2
theorem TOK.house {T : Tw} {s n k i : Nat} (t : TOK T s n k) (hi : i < n) : HOK T s n i := t.2.2.2.2.2.2 i hi
theorem TOK.street {T : Tw} {s n k i : Nat} (t : TOK T s n k) (hi : i < s) : Rg 0 7 (T.2 0 i) ∧ Rg 0 7 (T.2 1 i) := t.2.2.2.2.1 i hi
theorem TOK.shake {T : Tw} {s n k i : Nat} (t : TOK T s n k) (hi : i < k) : Rg 0 99 (T.2 2 i) ∧ Rg 0 9 (T.2 3 i) := t.2.2.2.2.2.1 i hi
theorem HOK.corner_ {T : Tw} {s n i : Nat} (h : HOK T s n i) : Rg 0 7 (T.2 4 i) := h.1
theorem HOK.weak_ {T : Tw} {s n i : Nat} (h : HOK T s n i) : Rg 0 9 (T.2 5 i) := h.2.1
theorem HOK.day_ {T : Tw} {s n i : Nat} (h : HOK T s n i) : Rg 0 99 (T.2 6 i) := h.2.2.1
theorem HOK.night_ {T : Tw} {s n i : Nat} (h : HOK T s n i) : Rg 0 99 (T.2 7 i) := h.2.2.2.1
theorem HOK.cost_ {T : Tw} {s n i : Nat} (h : HOK T s n i) : Rg 1 99 (T.2 8 i) := h.2.2.2.2.1
theorem HOK.front_ {T : Tw} {s n i : Nat} (h : HOK T s n i) : Rg (-1) ((s : Int) - 1) (T.2 9 i) := h.2.2.2.2.2.1
theorem HOK.next_ {T : Tw} {s n i : Nat} (h : HOK T s n i) : Rg (-1) ((n : Int) - 1) (T.2 10 i) := h.2.2.2.2.2.2.1
theorem HOK.steps_ {T : Tw} {s n i : Nat} (h : HOK T s n i) : Rg 0 2 (T.2 11 i) := h.2.2.2.2.2.2.2.1
theorem HOK.propped_ {T : Tw} {s n i : Nat} (h : HOK T s n i) : Rg 0 1 (T.2 12 i) := h.2.2.2.2.2.2.2.2
/-- how far a house's fall goes -/
def fallsB (T : Tw) (i k : Nat) : Int32 := T.2 5 i + T.2 3 k - nI 4 * T.2 11 i - nI 2 * T.2 12 i
def fallsC (T : Tw) (i k : Nat) : Int32 := if ¬ T.2 10 i = -1 ∧ ¬ T.2 11 (T.2 10 i).toNatClampNeg ≤ T.2 11 i then fallsB T i k + nI 1 else fallsB T i k
def fallsP (T : Tw) (i k : Nat) : Int32 := if fallsC T i k < 0 then nI 0 else if nI 10 < fallsC T i k then nI 10 else fallsC T i k
theorem c_fallsOf {G : GG} {h : Hp} {m i k s n kk : Nat} {T : Tw} {x y : Int32} (hM : MSh m h) (hT : MTw m h T s n kk) (hi : i < n) (hk : k < kk) (hx : x = nI i) (hy : y = nI k) : Ct G mX5_fallsOf 0 0 0 [.ref m, .int x, .int y] h (Rv (some (.int (fallsP T i k))) h) nX := by
  have hH := hT.1.house hi
  have hn := hT.n10
  have hkk := hT.k4
  refine Ct.mk ok_mX5_fallsOf ?_
  refine blk kX5_fallsOf_0 ?_
  refine ⟨_, _, hM.1, rfl, hM.weak_.1, ?_⟩
  refine ⟨i, _, hM.weak_.2.1, Or.inl rfl, hx, Nat.lt_of_lt_of_eq (by omega) hM.weak_.2.2.symm, ?_⟩
  refine ⟨_, _, hM.1, rfl, hM.hard_.1, ?_⟩
  refine ⟨k, _, hM.hard_.2.1, Or.inl rfl, hy, Nat.lt_of_lt_of_eq (by omega) hM.hard_.2.2.symm, ?_⟩
  refine ⟨_, _, hM.1, rfl, hM.steps_.1, ?_⟩
  refine ⟨i, _, hM.steps_.2.1, Or.inl rfl, hx, Nat.lt_of_lt_of_eq (by omega) hM.steps_.2.2.symm, ?_⟩
  refine ⟨_, _, hM.1, rfl, hM.propped_.1, ?_⟩
  refine ⟨i, _, hM.propped_.2.1, Or.inl rfl, hx, Nat.lt_of_lt_of_eq (by omega) hM.propped_.2.2.symm, ?_⟩
  refine blk kX5_fallsOf_32 ?_
  refine ⟨_, _, hM.1, rfl, hM.next_.1, ?_⟩
  refine ⟨i, _, hM.next_.2.1, Or.inl rfl, hx, Nat.lt_of_lt_of_eq (by omega) hM.next_.2.2.symm, ?_⟩
  have fin : ∀ z : Int32, z = fallsC T i k → WW G mX5_fallsOf (rmO 0 0 0) h (Rv (some (.int (fallsP T i k))) h) nX 65 [.ref m, .int x, .int y, .int z] [] h 0 0 := by
    intro z hz
    have e : fallsP T i k = if z < 0 then nI 0 else if nI 10 < z then nI 10 else z := by rw [hz]; rfl
    rw [e]
    refine blk kX5_fallsOf_65 ?_
    refine br_c (fun c1 => ?_) (fun c1 => ?_)
    · refine blk kX5_fallsOf_73 ?_
      refine br_c (fun c2 => ?_) (fun c2 => ?_)
      · refine blk kX5_fallsOf_84 ?_
        refine blk kX5_fallsOf_85 ?_
        rw [if_neg (Int32.not_lt.mpr c1), if_neg (Int32.not_lt.mpr c2)]
        exact ⟨trivial, rfl, rfl⟩
      · refine blk kX5_fallsOf_79 ?_
        refine blk kX5_fallsOf_85 ?_
        rw [if_neg (Int32.not_lt.mpr c1), if_pos (Int32.not_le.mp c2)]
        exact ⟨trivial, rfl, rfl⟩
    · refine blk kX5_fallsOf_69 ?_
      refine blk kX5_fallsOf_85 ?_
      rw [if_pos (Int32.not_le.mp c1)]
      exact ⟨trivial, rfl, rfl⟩
  have eB : Ai h (m + 7) i + Ai h (m + 5) k - nI 4 * Ai h (m + 13) i - nI 2 * Ai h (m + 14) i = fallsB T i k := by
    unfold fallsB
    rw [hT.weak_ hi, hT.hard_ hk, hT.steps_ hi, hT.propped_ hi]
  refine br_c (fun c1 => ?_) (fun c1 => ?_)
  · have c1 : Ai h (m + 12) i = -1 := c1
    rw [hT.next_ hi] at c1
    refine fin _ ?_
    unfold fallsC
    rw [if_neg (fun q => q.1 c1)]
    exact eB
  · have c1 : ¬ Ai h (m + 12) i = -1 := c1
    rw [hT.next_ hi] at c1
    obtain ⟨g1, g2⟩ := hH.next_.ix1 (N := n) (by omega) c1
    refine blk kX5_fallsOf_42 ?_
    refine ⟨_, _, hM.1, rfl, hM.steps_.1, ?_⟩
    refine ⟨_, _, hM.1, rfl, hM.next_.1, ?_⟩
    refine ⟨i, _, hM.next_.2.1, Or.inl rfl, hx, Nat.lt_of_lt_of_eq (by omega) hM.next_.2.2.symm, ?_⟩
    refine ⟨_, _, hM.steps_.2.1, Or.inl rfl, (hT.next_ hi).trans g1, Nat.lt_of_lt_of_eq (by omega) hM.steps_.2.2.symm, ?_⟩
    refine ⟨_, _, hM.1, rfl, hM.steps_.1, ?_⟩
    refine ⟨i, _, hM.steps_.2.1, Or.inl rfl, hx, Nat.lt_of_lt_of_eq (by omega) hM.steps_.2.2.symm, ?_⟩
    refine br_c (fun c2 => ?_) (fun c2 => ?_)
    · have c2 : Ai h (m + 13) (T.2 10 i).toNatClampNeg ≤ Ai h (m + 13) i := c2
      rw [hT.steps_ hi, hT.steps_ g2] at c2
      refine fin _ ?_
      unfold fallsC
      rw [if_neg (fun q => q.2 c2)]
      exact eB
    · have c2 : ¬ Ai h (m + 13) (T.2 10 i).toNatClampNeg ≤ Ai h (m + 13) i := c2
      rw [hT.steps_ hi, hT.steps_ g2] at c2
      refine blk kX5_fallsOf_62 ?_
      refine fin _ ?_
      unfold fallsC
      rw [if_pos ⟨c1, c2⟩, ← eB]
