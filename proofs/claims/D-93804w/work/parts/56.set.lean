set_option maxRecDepth 100000
def nrw (s : Int32) (v : Int64) : Int64 := if s = 0 then v.toInt32.toInt8.toInt32.toInt64 else if s = nI 1 then v.toInt32.toInt16.toInt32.toInt64 else if s = nI 2 then v.toInt32.toInt64 else v
def oSet (σ : Sg) (x i : Int32) (v : Int64) : Value × Sg := if wn σ x 1 = 0 then (if 0 ≤ i ∧ i < gS σ 2 x.toNatClampNeg then (.int (nI 1), sgX σ (gS σ) (up1 (gC σ) (120 * x.toNatClampNeg + i.toNatClampNeg) (nrw (gS σ 1 x.toNatClampNeg) v))) else noI σ 5) else noI σ (wn σ x 1)
theorem o_set {G : GG} {h : Hp} {m : Nat} {σ : Sg} {x i : Int32} {v : Int64} (r : MRep m h σ) : Ct G mX5_set 1 0 0 [.ref m, .int x, .int i, .long v] h (PO m (oSet σ x i v)) nX := by
  have hM := r.1
  refine Ct.mk ok_mX5_set ?_
  unfold oSet
  refine blk kX5_set_0 ?_
  refine callv_r hM.1 (c_isShelf) ?_
  refine brn_c (fun c1 => ?_) (fun c1 => ?_)
  · have c1 := bI_ne c1
    obtain ⟨x1, x2⟩ := inN_ix c1 (by decide)
    have e0 : Ai h (m + 15) x.toNatClampNeg = gS σ 0 x.toNatClampNeg := r.sh_ (a := 0) (by decide) x2
    have e1 : Ai h (m + 16) x.toNatClampNeg = gS σ 1 x.toNatClampNeg := r.sh_ (a := 1) (by decide) x2
    have e2 : Ai h (m + 17) x.toNatClampNeg = gS σ 2 x.toNatClampNeg := r.sh_ (a := 2) (by decide) x2
    refine blk kX5_set_14 ?_
    refine ⟨_, _, hM.1, rfl, hM.held_.1, ?_⟩
    refine ⟨_, _, hM.held_.2.1, Or.inl rfl, x1, Nat.lt_of_lt_of_eq (by omega) hM.held_.2.2.symm, ?_⟩
    refine brn_c (fun c2 => ?_) (fun c2 => ?_)
    · have c2 : ¬ Ai h (m + 15) x.toNatClampNeg = nI 2 := c2
      rw [e0] at c2
      refine blk kX5_set_31 ?_
      refine ⟨_, _, hM.1, rfl, hM.held_.1, ?_⟩
      refine ⟨_, _, hM.held_.2.1, Or.inl rfl, x1, Nat.lt_of_lt_of_eq (by omega) hM.held_.2.2.symm, ?_⟩
      refine brn_c (fun c3 => ?_) (fun c3 => ?_)
      · have c3 : ¬ Ai h (m + 15) x.toNatClampNeg = 0 := c3
        rw [e0] at c3
        have w0 : wn σ x 1 = 0 := by unfold wn; rw [if_pos c1, show nI 3 - nI 1 = nI 2 from rfl, if_neg c2, if_neg c3]
        rw [if_pos w0]
        obtain ⟨d1, d2, d3⟩ := wn_ok w0 r.sok (Or.inl rfl)
        obtain ⟨Z1, Z2⟩ := (d3.row d2).2.ix (N := 121) (by decide)
        have bad : ¬ (0 ≤ i ∧ i < gS σ 2 x.toNatClampNeg) → WW G mX5_set (rmO 1 0 0) h (PO m (if 0 ≤ i ∧ i < gS σ 2 x.toNatClampNeg then (.int (nI 1), sgX σ (gS σ) (up1 (gC σ) (120 * x.toNatClampNeg + i.toNatClampNeg) (nrw (gS σ 1 x.toNatClampNeg) v))) else noI σ 5)) nX 61 [.ref m, .int x, .int i, .long v, dV] [] h 0 0 := by
          intro c
          rw [if_neg c]
          refine blk kX5_set_61 ?_
          refine callv_g hM.1 (no_PO (k := 5) r (by decide) rfl) (fun r1 h1 hO => ?_)
          obtain ⟨rfl, hr⟩ := hO
          exact ⟨trivial, rfl, hr⟩
        refine blk kX5_set_47 ?_
        refine br_c (fun c4 => bad (fun q => Int32.not_lt.mpr q.1 c4)) (fun c4 => ?_)
        have c4 : ¬ i < 0 := c4
        refine blk kX5_set_51 ?_
        refine ⟨_, _, hM.1, rfl, hM.size_.1, ?_⟩
        refine ⟨_, _, hM.size_.2.1, Or.inl rfl, x1, Nat.lt_of_lt_of_eq (by omega) hM.size_.2.2.symm, ?_⟩
        refine br_c (fun c5 => ?_) (fun c5 => ?_)
        · have c5 : i < Ai h (m + 17) x.toNatClampNeg := c5
          rw [e2] at c5
          rw [if_pos ⟨Int32.not_lt.mp c4, c5⟩]
          obtain ⟨i1, i2⟩ := nat_of c4
          have hlt : i.toNatClampNeg < 120 := by
            rw [Z1, i1, nI_ltI i2 (by omega)] at c5
            omega
          have e : nI 120 * x + i = nI (120 * x.toNatClampNeg + i.toNatClampNeg) := by
            conv => lhs; rw [x1, i1, pk_mul, nI_add]
          obtain ⟨J, eJ⟩ : ∃ J, J = 120 * x.toNatClampNeg + i.toNatClampNeg := ⟨_, rfl⟩
          rw [← eJ] at e ⊢
          have fin : ∀ u : Int64, u = nrw (gS σ 1 x.toNatClampNeg) v → WW G mX5_set (rmO 1 0 0) h (PO m (.int (nI 1), sgX σ (gS σ) (up1 (gC σ) J (nrw (gS σ 1 x.toNatClampNeg) v)))) nX 128 [.ref m, .int x, .int i, .long v, dV] [.long u, .int (nI 120 * x + i), .ref (m + 20)] h 0 0 := by
            intro u hu
            refine blk kX5_set_128 ?_
            refine ⟨J, hM.cells_.2.1, e, Nat.lt_of_lt_of_eq (by omega) hM.cells_.2.2.symm, ?_⟩
            refine ⟨trivial, rfl, r.shelf (FQ.sAl (by decide)) (fun a j ha hj => r.sh_ ha hj) (fun j hj => ?_) r.sok⟩
            show up2 (Al h) (m + 20) J u (m + 20) j = up1 (gC σ) J _ j
            rw [up2_ap, up1_ap]
            by_cases e : j = J
            · rw [if_pos ⟨rfl, e⟩, if_pos e, hu]
            · rw [if_neg (fun q => e q.2), if_neg e]; exact r.2.2.2.2.1 j hj
          refine blk kX5_set_68 ?_
          refine ⟨_, _, hM.1, rfl, hM.cells_.1, ?_⟩
          refine ⟨_, _, hM.1, rfl, hM.sort_.1, ?_⟩
          refine ⟨_, _, hM.sort_.2.1, Or.inl rfl, x1, Nat.lt_of_lt_of_eq (by omega) hM.sort_.2.2.symm, ?_⟩
          refine brn_c (fun c6 => ?_) (fun c6 => ?_)
          · have c6 : ¬ Ai h (m + 16) x.toNatClampNeg = 0 := c6
            rw [e1] at c6
            refine blk kX5_set_94 ?_
            refine ⟨_, _, hM.1, rfl, hM.sort_.1, ?_⟩
            refine ⟨_, _, hM.sort_.2.1, Or.inl rfl, x1, Nat.lt_of_lt_of_eq (by omega) hM.sort_.2.2.symm, ?_⟩
            refine brn_c (fun c7 => ?_) (fun c7 => ?_)
            · have c7 : ¬ Ai h (m + 16) x.toNatClampNeg = nI 1 := c7
              rw [e1] at c7
              refine blk kX5_set_111 ?_
              refine ⟨_, _, hM.1, rfl, hM.sort_.1, ?_⟩
              refine ⟨_, _, hM.sort_.2.1, Or.inl rfl, x1, Nat.lt_of_lt_of_eq (by omega) hM.sort_.2.2.symm, ?_⟩
              refine brn_c (fun c8 => ?_) (fun c8 => ?_)
              · have c8 : ¬ Ai h (m + 16) x.toNatClampNeg = nI 2 := c8
                rw [e1] at c8
                refine blk kX5_set_127 ?_
                exact fin _ (by unfold nrw; rw [if_neg c6, if_neg c7, if_neg c8])
              · have c8 : Ai h (m + 16) x.toNatClampNeg = nI 2 := c8
                rw [e1] at c8
                refine blk kX5_set_121 ?_
                exact fin _ (by unfold nrw; rw [if_neg c6, if_neg c7, if_pos c8])
            · have c7 : Ai h (m + 16) x.toNatClampNeg = nI 1 := c7
              rw [e1] at c7
              refine blk kX5_set_104 ?_
              exact fin _ (by unfold nrw; rw [if_neg c6, if_pos c7])
          · have c6 : Ai h (m + 16) x.toNatClampNeg = 0 := c6
            rw [e1] at c6
            refine blk kX5_set_87 ?_
            exact fin _ (by unfold nrw; rw [if_pos c6])
        · have c5 : ¬ i < Ai h (m + 17) x.toNatClampNeg := c5
          rw [e2] at c5
          exact bad (fun q => c5 q.2)
      · have c3 : Ai h (m + 15) x.toNatClampNeg = 0 := c3
        rw [e0] at c3
        have w0 : wn σ x 1 = 3 := by unfold wn; rw [if_pos c1, show nI 3 - nI 1 = nI 2 from rfl, if_neg c2, if_pos c3]
        rw [w0, if_neg (by decide)]
        refine blk kX5_set_40 ?_
        refine callv_g hM.1 (no_PO (k := 3) r (by decide) rfl) (fun r1 h1 hO => ?_)
        obtain ⟨rfl, hr⟩ := hO
        exact ⟨trivial, rfl, hr⟩
    · have c2 : Ai h (m + 15) x.toNatClampNeg = nI 2 := c2
      rw [e0] at c2
      have w0 : wn σ x 1 = 2 := by unfold wn; rw [if_pos c1]; exact if_pos c2
      rw [w0, if_neg (by decide)]
      refine blk kX5_set_24 ?_
      refine callv_g hM.1 (no_PO (k := 2) r (by decide) rfl) (fun r1 h1 hO => ?_)
      obtain ⟨rfl, hr⟩ := hO
      exact ⟨trivial, rfl, hr⟩
  · have c1 := bI_eq c1
    have w0 : wn σ x 1 = 1 := by unfold wn; rw [if_neg c1]
    rw [w0, if_neg (by decide)]
    refine blk kX5_set_8 ?_
    refine callv_g hM.1 (no_PO (k := 1) r (by decide) rfl) (fun r1 h1 hO => ?_)
    obtain ⟨rfl, hr⟩ := hO
    exact ⟨trivial, rfl, hr⟩
