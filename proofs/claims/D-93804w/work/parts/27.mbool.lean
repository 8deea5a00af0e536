set_option maxRecDepth 100000
theorem c_isHouse {G : GG} {h : Hp} {m s n k : Nat} {T : Tw} {x : Int32} (hM : MSh m h) (hT : MTw m h T s n k) : Ct G mX5_isHouse 0 0 0 [.ref m, .int x] h (Rv (some (.int (bI (inN x n)))) h) nX := by
  refine Ct.mk ok_mX5_isHouse ?_
  refine blk kX5_isHouse_0 ?_
  refine br_c (fun c1 => ?_) (fun c1 => ?_)
  · refine blk kX5_isHouse_16 ?_
    refine blk kX5_isHouse_17 ?_
    exact ⟨Or.inl rfl, by rw [bI_f (fun q => Int32.not_lt.mpr q.1 c1)], rfl⟩
  · refine blk kX5_isHouse_4 ?_
    refine ⟨_, hM.1, rfl, ?_⟩
    refine br_c (fun c2 => ?_) (fun c2 => ?_)
    · have c2 : Fi h 30 m ≤ x := c2
      rw [hT.nH] at c2
      refine blk kX5_isHouse_16 ?_
      refine blk kX5_isHouse_17 ?_
      exact ⟨Or.inl rfl, by rw [bI_f (fun q => Int32.not_lt.mpr c2 q.2)], rfl⟩
    · have c2 : ¬ Fi h 30 m ≤ x := c2
      rw [hT.nH] at c2
      refine blk kX5_isHouse_12 ?_
      refine blk kX5_isHouse_17 ?_
      exact ⟨Or.inr rfl, by rw [bI_t ⟨Int32.not_lt.mp c1, Int32.not_le.mp c2⟩], rfl⟩
theorem c_isShake {G : GG} {h : Hp} {m s n k : Nat} {T : Tw} {x : Int32} (hM : MSh m h) (hT : MTw m h T s n k) : Ct G mX5_isShake 0 0 0 [.ref m, .int x] h (Rv (some (.int (bI (inN x k)))) h) nX := by
  refine Ct.mk ok_mX5_isShake ?_
  refine blk kX5_isShake_0 ?_
  refine br_c (fun c1 => ?_) (fun c1 => ?_)
  · refine blk kX5_isShake_16 ?_
    refine blk kX5_isShake_17 ?_
    exact ⟨Or.inl rfl, by rw [bI_f (fun q => Int32.not_lt.mpr q.1 c1)], rfl⟩
  · refine blk kX5_isShake_4 ?_
    refine ⟨_, hM.1, rfl, ?_⟩
    refine br_c (fun c2 => ?_) (fun c2 => ?_)
    · have c2 : Fi h 31 m ≤ x := c2
      rw [hT.nK] at c2
      refine blk kX5_isShake_16 ?_
      refine blk kX5_isShake_17 ?_
      exact ⟨Or.inl rfl, by rw [bI_f (fun q => Int32.not_lt.mpr c2 q.2)], rfl⟩
    · have c2 : ¬ Fi h 31 m ≤ x := c2
      rw [hT.nK] at c2
      refine blk kX5_isShake_12 ?_
      refine blk kX5_isShake_17 ?_
      exact ⟨Or.inr rfl, by rw [bI_t ⟨Int32.not_lt.mp c1, Int32.not_le.mp c2⟩], rfl⟩
theorem c_isCorner {G : GG} {h : Hp} {m s n k : Nat} {T : Tw} {x : Int32} (hM : MSh m h) (hT : MTw m h T s n k) : Ct G mX5_isCorner 0 0 0 [.ref m, .int x] h (Rv (some (.int (bI (inN x 8)))) h) nX := by
  refine Ct.mk ok_mX5_isCorner ?_
  refine blk kX5_isCorner_0 ?_
  refine br_c (fun c1 => ?_) (fun c1 => ?_)
  · refine blk kX5_isCorner_14 ?_
    refine blk kX5_isCorner_15 ?_
    exact ⟨Or.inl rfl, by rw [bI_f (fun q => Int32.not_lt.mpr q.1 c1)], rfl⟩
  · refine blk kX5_isCorner_4 ?_
    refine br_c (fun c2 => ?_) (fun c2 => ?_)
    · have c2 : nI 8 ≤ x := c2
      refine blk kX5_isCorner_14 ?_
      refine blk kX5_isCorner_15 ?_
      exact ⟨Or.inl rfl, by rw [bI_f (fun q => Int32.not_lt.mpr c2 q.2)], rfl⟩
    · have c2 : ¬ nI 8 ≤ x := c2
      refine blk kX5_isCorner_10 ?_
      refine blk kX5_isCorner_15 ?_
      exact ⟨Or.inr rfl, by rw [bI_t ⟨Int32.not_lt.mp c1, Int32.not_le.mp c2⟩], rfl⟩
theorem c_isShelf {G : GG} {h : Hp} {m : Nat} {x : Int32} : Ct G mX5_isShelf 0 0 0 [.ref m, .int x] h (Rv (some (.int (bI (inN x 8)))) h) nX := by
  refine Ct.mk ok_mX5_isShelf ?_
  refine blk kX5_isShelf_0 ?_
  refine br_c (fun c1 => ?_) (fun c1 => ?_)
  · refine blk kX5_isShelf_14 ?_
    refine blk kX5_isShelf_15 ?_
    exact ⟨Or.inl rfl, by rw [bI_f (fun q => Int32.not_lt.mpr q.1 c1)], rfl⟩
  · refine blk kX5_isShelf_4 ?_
    refine br_c (fun c2 => ?_) (fun c2 => ?_)
    · refine blk kX5_isShelf_14 ?_
      refine blk kX5_isShelf_15 ?_
      exact ⟨Or.inl rfl, by rw [bI_f (fun q => Int32.not_lt.mpr c2 q.2)], rfl⟩
    · refine blk kX5_isShelf_10 ?_
      refine blk kX5_isShelf_15 ?_
      exact ⟨Or.inr rfl, by rw [bI_t ⟨Int32.not_lt.mp c1, Int32.not_le.mp c2⟩], rfl⟩
abbrev yrs (x : Int32) : Prop := nI 1 ≤ x ∧ x ≤ nI 20
theorem c_isYears {G : GG} {h : Hp} {m : Nat} {x : Int32} : Ct G mX5_isYears 0 0 0 [.ref m, .int x] h (Rv (some (.int (bI (yrs x)))) h) nX := by
  refine Ct.mk ok_mX5_isYears ?_
  refine blk kX5_isYears_0 ?_
  refine br_c (fun c1 => ?_) (fun c1 => ?_)
  · refine blk kX5_isYears_15 ?_
    refine blk kX5_isYears_16 ?_
    exact ⟨Or.inl rfl, by rw [bI_f (fun q => Int32.not_lt.mpr q.1 c1)], rfl⟩
  · refine blk kX5_isYears_5 ?_
    refine br_c (fun c2 => ?_) (fun c2 => ?_)
    · refine blk kX5_isYears_15 ?_
      refine blk kX5_isYears_16 ?_
      exact ⟨Or.inl rfl, by rw [bI_f (fun q => Int32.not_lt.mpr q.2 c2)], rfl⟩
    · refine blk kX5_isYears_11 ?_
      refine blk kX5_isYears_16 ?_
      exact ⟨Or.inr rfl, by rw [bI_t ⟨Int32.not_lt.mp c1, Int32.not_lt.mp c2⟩], rfl⟩
theorem c_no {G : GG} {h : Hp} {m k : Nat} {b : Int32} (hM : MSh m h) (hk : k < 8) (hb : -b = nI k) : Ct G mX5_no 0 0 0 [.ref m, .int b] h (Rv (some (.int b)) (sAi h (m + 1) k (Ai h (m + 1) k + nI 1))) nX := by
  refine Ct.mk ok_mX5_no ?_
  refine blk kX5_no_0 ?_
  refine ⟨_, _, hM.1, rfl, hM.refused_.1, ?_⟩
  refine ⟨k, _, hM.refused_.2.1, Or.inl rfl, hb, Nat.lt_of_lt_of_eq (hk) hM.refused_.2.2.symm, ?_⟩
  refine ⟨k, hM.refused_.2.1, hb, Nat.lt_of_lt_of_eq (hk) hM.refused_.2.2.symm, ?_⟩
  exact ⟨trivial, rfl, rfl⟩
theorem c_noTen {G : GG} {h : Hp} {m k : Nat} {b : Int32} (hM : MSh m h) (hk : k < 8) (hb : -b = nI k) : Ct G mX5_noTen 0 0 0 [.ref m, .int b] h (Rv (some (.int (b - nI 10))) (sAi h (m + 1) k (Ai h (m + 1) k + nI 1))) nX := by
  refine Ct.mk ok_mX5_noTen ?_
  refine blk kX5_noTen_0 ?_
  refine ⟨_, _, hM.1, rfl, hM.refused_.1, ?_⟩
  refine ⟨k, _, hM.refused_.2.1, Or.inl rfl, hb, Nat.lt_of_lt_of_eq (hk) hM.refused_.2.2.symm, ?_⟩
  refine ⟨k, hM.refused_.2.1, hb, Nat.lt_of_lt_of_eq (hk) hM.refused_.2.2.symm, ?_⟩
  exact ⟨trivial, rfl, rfl⟩
theorem c_noLow {G : GG} {h : Hp} {m k : Nat} {b : Int32} (hM : MSh m h) (hk : k < 8) (hb : -b = nI k) : Ct G mX5_noLow 0 0 0 [.ref m, .int b] h (Rv (some (.int (-1000000 + b))) (sAi h (m + 1) k (Ai h (m + 1) k + nI 1))) nX := by
  refine Ct.mk ok_mX5_noLow ?_
  refine blk kX5_noLow_0 ?_
  refine ⟨_, _, hM.1, rfl, hM.refused_.1, ?_⟩
  refine ⟨k, _, hM.refused_.2.1, Or.inl rfl, hb, Nat.lt_of_lt_of_eq (hk) hM.refused_.2.2.symm, ?_⟩
  refine ⟨k, hM.refused_.2.1, hb, Nat.lt_of_lt_of_eq (hk) hM.refused_.2.2.symm, ?_⟩
  exact ⟨trivial, rfl, rfl⟩
/-- what bars a row (1), a rule (2) -/
def wnt (σ : Sg) (x what : Int32) : Int32 := if inN x 8 then (if gS σ 0 x.toNatClampNeg = nI 3 - what then -2 else if gS σ 0 x.toNatClampNeg = 0 then -3 else nI 0) else -1
theorem c_wants {G : GG} {h : Hp} {m : Nat} {σ : Sg} {x what : Int32} (r : MRep m h σ) : Ct G mX5_wants 1 0 0 [.ref m, .int x, .int what] h (Rv (some (.int (wnt σ x what))) h) nX := by
  have hM := r.1
  refine Ct.mk ok_mX5_wants ?_
  unfold wnt
  refine blk kX5_wants_0 ?_
  refine callv_r hM.1 (c_isShelf) ?_
  refine brn_c (fun c1 => ?_) (fun c1 => ?_)
  · have c1 := bI_ne c1
    rw [if_pos c1]
    obtain ⟨g1, g2⟩ := inN_ix c1 (by decide)
    have e0 := r.2.2.2.1 0 _ (by decide) g2
    refine blk kX5_wants_12 ?_
    refine ⟨_, _, hM.1, rfl, hM.held_.1, ?_⟩
    refine ⟨_, _, hM.held_.2.1, Or.inl rfl, g1, Nat.lt_of_lt_of_eq (g2) hM.held_.2.2.symm, ?_⟩
    refine brn_c (fun c2 => ?_) (fun c2 => ?_)
    · have c2 : ¬ Ai h (m + 15) x.toNatClampNeg = nI 3 - what := c2
      rw [e0] at c2
      rw [if_neg c2]
      refine blk kX5_wants_29 ?_
      refine ⟨_, _, hM.1, rfl, hM.held_.1, ?_⟩
      refine ⟨_, _, hM.held_.2.1, Or.inl rfl, g1, Nat.lt_of_lt_of_eq (g2) hM.held_.2.2.symm, ?_⟩
      refine brn_c (fun c3 => ?_) (fun c3 => ?_)
      · have c3 : ¬ Ai h (m + 15) x.toNatClampNeg = 0 := c3
        rw [e0] at c3
        rw [if_neg c3]
        refine blk kX5_wants_43 ?_
        refine blk kX5_wants_44 ?_
        exact ⟨trivial, rfl, rfl⟩
      · have c3 : Ai h (m + 15) x.toNatClampNeg = 0 := c3
        rw [e0] at c3
        rw [if_pos c3]
        refine blk kX5_wants_38 ?_
        refine blk kX5_wants_44 ?_
        exact ⟨trivial, rfl, rfl⟩
    · have c2 : Ai h (m + 15) x.toNatClampNeg = nI 3 - what := c2
      rw [e0] at c2
      rw [if_pos c2]
      refine blk kX5_wants_24 ?_
      refine blk kX5_wants_44 ?_
      exact ⟨trivial, rfl, rfl⟩
  · have c1 := bI_eq c1
    rw [if_neg c1]
    refine blk kX5_wants_8 ?_
    refine blk kX5_wants_44 ?_
    exact ⟨trivial, rfl, rfl⟩
theorem c_intAt {G : GG} {h : Hp} {m i j : Nat} {σ : Sg} {x y : Int32} (r : MRep m h σ) (hx : x = nI i) (hy : y = nI j) (hi : i < 8) (hj : j < 120) : Ct G mX5_intAt 0 0 0 [.ref m, .int x, .int y] h (Rv (some (.int (gC σ (120 * i + j)).toInt32)) h) nX := by
  have hM := r.1
  refine Ct.mk ok_mX5_intAt ?_
  have e : nI 120 * x + y = nI (120 * i + j) := by rw [hx, hy, pk_mul, nI_add]
  refine blk kX5_intAt_0 ?_
  refine ⟨_, _, hM.1, rfl, hM.cells_.1, ?_⟩
  refine ⟨120 * i + j, hM.cells_.2.1, e, Nat.lt_of_lt_of_eq (by omega) hM.cells_.2.2.symm, ?_⟩
  exact ⟨trivial, by rw [r.2.2.2.2.1 _ (by omega)], rfl⟩
