set_option maxRecDepth 100000
/-! shelves -/
def sgS (σ : Sg) (S : Nat → Nat → Int32) : Sg := (σ.1, σ.2.1, S, σ.2.2.2)
def sgC (σ : Sg) (C : Nat → Int64) : Sg := (σ.1, σ.2.1, σ.2.2.1, C, σ.2.2.2.2)
theorem MRep.sh_ {m : Nat} {h : Hp} {σ : Sg} (r : MRep m h σ) {a i : Nat} (ha : a < 5) (hi : i < 8) : Ai h (m + (15 + a)) i = gS σ a i := r.2.2.2.1 a i ha hi
theorem MRep.setS_ {m a i : Nat} {h : Hp} {σ : Sg} {v : Int32} (r : MRep m h σ) (ha : a < 5) (ok : ∀ j, j < 8 → SOK (up2 (gS σ) a i v) j) : MRep m (sAi h (m + (15 + a)) i v) (sgS σ (up2 (gS σ) a i v)) := by
  obtain ⟨r1, ⟨s, n, k, r2⟩, r3, r4, r5, r6, r7, r8, r9, r10⟩ := r
  refine ⟨r1, ⟨s, n, k, r2.off (fun b hb => by omega)⟩, fun j hj => ?_, fun b j hb hj => ?_, r5, r6, fun j hj => ?_, ?_, fun j hj => ?_, ok⟩
  · rw [Ai_sAi_ne (by omega)]; exact r3 j hj
  · show up2 (Ai h) (m + (15 + a)) i v (m + (15 + b)) j = up2 (gS σ) a i v b j
    rw [up2_ap, up2_ap]
    by_cases e : b = a ∧ j = i
    · rw [if_pos ⟨by omega, e.2⟩, if_pos e]
    · rw [if_neg (by omega), if_neg e]; exact r4 b j hb hj
  · rw [Ai_sAi_ne (by omega)]; exact r7 j hj
  · rw [Ai_sAi_ne (by omega)]; exact r8
  · rw [Ai_sAi_ne (by omega)]; exact r9 j hj
theorem MRep.setC_ {m i : Nat} {h : Hp} {σ : Sg} {v : Int64} (r : MRep m h σ) : MRep m (sAl h (m + 20) i v) (sgC σ (up1 (gC σ) i v)) := by
  obtain ⟨r1, ⟨s, n, k, r2⟩, r3, r4, r5, r6, r7, r8, r9, r10⟩ := r
  refine ⟨r1, ⟨s, n, k, r2⟩, r3, r4, fun j hj => ?_, r6, r7, r8, r9, r10⟩
  show up2 (Al h) (m + 20) i v (m + 20) j = up1 (gC σ) i v j
  rw [up2_ap, up1_ap]
  by_cases e : j = i
  · rw [if_pos ⟨rfl, e⟩, if_pos e]
  · rw [if_neg (fun q => e q.2), if_neg e]; exact r5 j hj
def hoH (σ : Sg) (x : Int32) : Int32 := if inN x 8 ∧ ¬ gS σ 0 x.toNatClampNeg = 0 then (if gS σ 0 x.toNatClampNeg = nI 1 then nI 100 + gS σ 1 x.toNatClampNeg else gS σ 3 x.toNatClampNeg) else -1
theorem o_holds {G : GG} {h : Hp} {m : Nat} {σ : Sg} {x : Int32} (r : MRep m h σ) : Ct G mX5_holds 1 0 0 [.ref m, .int x] h (PO m (.int (hoH σ x), σ)) nX := by
  have hM := r.1
  refine Ct.mk ok_mX5_holds ?_
  unfold hoH
  have bad : ¬ (inN x 8 ∧ ¬ gS σ 0 x.toNatClampNeg = 0) → WW G mX5_holds (rmO 1 0 0) h (PO m (.int (if inN x 8 ∧ ¬ gS σ 0 x.toNatClampNeg = 0 then (if gS σ 0 x.toNatClampNeg = nI 1 then nI 100 + gS σ 1 x.toNatClampNeg else gS σ 3 x.toNatClampNeg) else -1), σ)) nX 17 [.ref m, .int x] [] h 0 0 := by
    intro c
    rw [if_neg c]
    refine blk kX5_holds_17 ?_
    exact ⟨trivial, rfl, r⟩
  refine blk kX5_holds_0 ?_
  refine callv_r hM.1 (c_isShelf) ?_
  refine br_c (fun c1 => ?_) (fun c1 => ?_)
  · exact bad (fun q => bI_eq c1 q.1)
  · have c1 := bI_ne c1
    obtain ⟨x1, x2⟩ := inN_ix c1 (by decide)
    have e0 := r.sh_ (a := 0) (by decide) x2
    refine blk kX5_holds_8 ?_
    refine ⟨_, _, hM.1, rfl, hM.held_.1, ?_⟩
    refine ⟨_, _, hM.held_.2.1, Or.inl rfl, x1, Nat.lt_of_lt_of_eq (by omega) hM.held_.2.2.symm, ?_⟩
    refine brn_c (fun c2 => ?_) (fun c2 => ?_)
    · have c2 : ¬ Ai h (m + 15) x.toNatClampNeg = 0 := c2
      rw [show Ai h (m + 15) x.toNatClampNeg = gS σ 0 x.toNatClampNeg from e0] at c2
      rw [if_pos ⟨c1, c2⟩]
      refine blk kX5_holds_19 ?_
      refine ⟨_, _, hM.1, rfl, hM.held_.1, ?_⟩
      refine ⟨_, _, hM.held_.2.1, Or.inl rfl, x1, Nat.lt_of_lt_of_eq (by omega) hM.held_.2.2.symm, ?_⟩
      refine brn_c (fun c3 => ?_) (fun c3 => ?_)
      · have c3 : ¬ Ai h (m + 15) x.toNatClampNeg = nI 1 := c3
        rw [show Ai h (m + 15) x.toNatClampNeg = gS σ 0 x.toNatClampNeg from e0] at c3
        rw [if_neg c3]
        refine blk kX5_holds_41 ?_
        refine ⟨_, _, hM.1, rfl, hM.kind_.1, ?_⟩
        refine ⟨_, _, hM.kind_.2.1, Or.inl rfl, x1, Nat.lt_of_lt_of_eq (by omega) hM.kind_.2.2.symm, ?_⟩
        refine blk kX5_holds_47 ?_
        exact ⟨trivial, by rw [← r.sh_ (a := 3) (by decide) x2], r⟩
      · have c3 : Ai h (m + 15) x.toNatClampNeg = nI 1 := c3
        rw [show Ai h (m + 15) x.toNatClampNeg = gS σ 0 x.toNatClampNeg from e0] at c3
        rw [if_pos c3]
        refine blk kX5_holds_29 ?_
        refine ⟨_, _, hM.1, rfl, hM.sort_.1, ?_⟩
        refine ⟨_, _, hM.sort_.2.1, Or.inl rfl, x1, Nat.lt_of_lt_of_eq (by omega) hM.sort_.2.2.symm, ?_⟩
        refine blk kX5_holds_47 ?_
        exact ⟨trivial, by rw [← r.sh_ (a := 1) (by decide) x2], r⟩
    · have c2 : Ai h (m + 15) x.toNatClampNeg = 0 := c2
      rw [show Ai h (m + 15) x.toNatClampNeg = gS σ 0 x.toNatClampNeg from e0] at c2
      exact bad (fun q => q.2 c2)
def elE (σ : Sg) (x i : Int32) : Int64 := if inN x 8 ∧ gS σ 0 x.toNatClampNeg = nI 1 ∧ 0 ≤ i ∧ i < gS σ 2 x.toNatClampNeg then gC σ (120 * x.toNatClampNeg + i.toNatClampNeg) else lN 0
theorem o_element {G : GG} {h : Hp} {m : Nat} {σ : Sg} {x i : Int32} (r : MRep m h σ) : Ct G mX5_element 1 0 0 [.ref m, .int x, .int i] h (PO m (.long (elE σ x i), σ)) nX := by
  have hM := r.1
  refine Ct.mk ok_mX5_element ?_
  unfold elE
  have bad : ¬ (inN x 8 ∧ gS σ 0 x.toNatClampNeg = nI 1 ∧ 0 ≤ i ∧ i < gS σ 2 x.toNatClampNeg) → WW G mX5_element (rmO 1 0 0) h (PO m (.long (if inN x 8 ∧ gS σ 0 x.toNatClampNeg = nI 1 ∧ 0 ≤ i ∧ i < gS σ 2 x.toNatClampNeg then gC σ (120 * x.toNatClampNeg + i.toNatClampNeg) else lN 0), σ)) nX 46 [.ref m, .int x, .int i] [] h 0 0 := by
    intro c
    rw [if_neg c]
    refine blk kX5_element_46 ?_
    refine blk kX5_element_47 ?_
    exact ⟨trivial, rfl, r⟩
  refine blk kX5_element_0 ?_
  refine callv_r hM.1 (c_isShelf) ?_
  refine br_c (fun c1 => ?_) (fun c1 => ?_)
  · exact bad (fun q => bI_eq c1 q.1)
  · have c1 := bI_ne c1
    obtain ⟨x1, x2⟩ := inN_ix c1 (by decide)
    refine blk kX5_element_8 ?_
    refine ⟨_, _, hM.1, rfl, hM.held_.1, ?_⟩
    refine ⟨_, _, hM.held_.2.1, Or.inl rfl, x1, Nat.lt_of_lt_of_eq (by omega) hM.held_.2.2.symm, ?_⟩
    refine brn_c (fun c2 => ?_) (fun c2 => ?_)
    · have c2 : ¬ Ai h (m + 15) x.toNatClampNeg = nI 1 := c2
      rw [show Ai h (m + 15) x.toNatClampNeg = gS σ 0 x.toNatClampNeg from r.sh_ (a := 0) (by decide) x2] at c2
      exact bad (fun q => c2 q.2.1)
    · have c2 : Ai h (m + 15) x.toNatClampNeg = nI 1 := c2
      rw [show Ai h (m + 15) x.toNatClampNeg = gS σ 0 x.toNatClampNeg from r.sh_ (a := 0) (by decide) x2] at c2
      refine blk kX5_element_18 ?_
      refine br_c (fun c3 => bad (fun q => Int32.not_lt.mpr q.2.2.1 c3)) (fun c3 => ?_)
      have c3 : ¬ i < 0 := c3
      refine blk kX5_element_22 ?_
      refine ⟨_, _, hM.1, rfl, hM.size_.1, ?_⟩
      refine ⟨_, _, hM.size_.2.1, Or.inl rfl, x1, Nat.lt_of_lt_of_eq (by omega) hM.size_.2.2.symm, ?_⟩
      refine br_c (fun c4 => ?_) (fun c4 => ?_)
      · have c4 : Ai h (m + 17) x.toNatClampNeg ≤ i := c4
        rw [show Ai h (m + 17) x.toNatClampNeg = gS σ 2 x.toNatClampNeg from r.sh_ (a := 2) (by decide) x2] at c4
        exact bad (fun q => Int32.not_lt.mpr c4 q.2.2.2)
      · have c4 : ¬ Ai h (m + 17) x.toNatClampNeg ≤ i := c4
        rw [show Ai h (m + 17) x.toNatClampNeg = gS σ 2 x.toNatClampNeg from r.sh_ (a := 2) (by decide) x2] at c4
        rw [if_pos ⟨c1, c2, Int32.not_lt.mp c3, Int32.not_le.mp c4⟩]
        obtain ⟨Z1, Z2⟩ := ((r.sok _ x2).row c2).2.ix (N := 121) (by decide)
        obtain ⟨i1, i2⟩ := nat_of c3
        have hlt : i.toNatClampNeg < 120 := by
          rw [Z1, i1, nI_leI (by omega) i2] at c4
          omega
        have e : nI 120 * x + i = nI (120 * x.toNatClampNeg + i.toNatClampNeg) := by
          conv => lhs; rw [x1, i1, pk_mul, nI_add]
        refine blk kX5_element_32 ?_
        refine ⟨_, _, hM.1, rfl, hM.cells_.1, ?_⟩
        refine ⟨120 * x.toNatClampNeg + i.toNatClampNeg, hM.cells_.2.1, e, Nat.lt_of_lt_of_eq (by omega) hM.cells_.2.2.symm, ?_⟩
        refine blk kX5_element_47 ?_
        exact ⟨trivial, by rw [r.2.2.2.2.1 _ (by omega)], r⟩
