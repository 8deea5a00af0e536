set_option maxRecDepth 100000
/-! edits of a town -/
def hoV (T : Tw) (i : Nat) (w : Int32) : Int32 := T.2 (4 + w.toNatClampNeg) i
def oHouseOf (σ : Sg) (x w : Int32) : Value × Sg := if inH (gT σ) x ∧ (0 ≤ w ∧ w ≤ nI 8) then (.int (hoV (gT σ) x.toNatClampNeg w), σ) else noI σ 5
theorem o_houseOf {G : GG} {h : Hp} {m : Nat} {σ : Sg} {x w : Int32} (r : MRep m h σ) : Ct G mX5_houseOf 1 0 0 [.ref m, .int x, .int w] h (PO m (oHouseOf σ x w)) nX := by
  have hM := r.1
  obtain ⟨s, n, k, t⟩ := r.tw
  have hn := t.n10
  have en := t.1.nHo_
  refine Ct.mk ok_mX5_houseOf ?_
  unfold oHouseOf
  have bad : ¬ (inH (gT σ) x ∧ (0 ≤ w ∧ w ≤ nI 8)) → WW G mX5_houseOf (rmO 1 0 0) h (PO m (if inH (gT σ) x ∧ (0 ≤ w ∧ w ≤ nI 8) then (.int (hoV (gT σ) x.toNatClampNeg w), σ) else noI σ 5)) nX 18 [.ref m, .int x, .int w] [] h 0 0 := by
    intro c
    rw [if_neg c]
    refine blk kX5_houseOf_18 ?_
    refine callv_g hM.1 (no_PO (k := 5) r (by decide) rfl) (fun r1 h1 hO => ?_)
    obtain ⟨rfl, hr⟩ := hO
    exact ⟨trivial, rfl, hr⟩
  refine blk kX5_houseOf_0 ?_
  refine callv_r hM.1 (c_isHouse hM t) ?_
  refine br_c (fun c1 => ?_) (fun c1 => ?_)
  · exact bad (fun q => bI_eq c1 (by have := q.1; unfold inH at this; rw [en] at this; exact this))
  · have c1 := bI_ne c1
    obtain ⟨x1, x2⟩ := inN_ix c1 (by omega)
    refine blk kX5_houseOf_8 ?_
    refine br_c (fun c2 => ?_) (fun c2 => ?_)
    · exact bad (fun q => Int32.not_lt.mpr q.2.1 c2)
    · have c2 : ¬ w < 0 := c2
      refine blk kX5_houseOf_12 ?_
      refine br_c (fun c3 => ?_) (fun c3 => ?_)
      · have c3 : w ≤ nI 8 := c3
        have c9 : inH (gT σ) x ∧ (0 ≤ w ∧ w ≤ nI 8) := ⟨by unfold inH; rw [en]; exact c1, Int32.not_lt.mp c2, c3⟩
        rw [if_pos c9]
        obtain ⟨j, hj, hw⟩ := nI_of2 (x := w) (M := nI 8) (n := 8) (by decide) c2 c3
        have ev : hoV (gT σ) x.toNatClampNeg w = (gT σ).2 (4 + j) x.toNatClampNeg := by unfold hoV; rw [hw, nI_clamp (by omega)]
        have ea : ∀ a, a < 9 → Ai h (m + (2 + (4 + a))) x.toNatClampNeg = (gT σ).2 (4 + a) x.toNatClampNeg := fun a ha => t.2.2 (4 + a) _ (by omega) (by unfold cn; rw [if_neg (by omega), if_neg (by omega)]; exact x2)
        rw [ev]
        refine blk kX5_houseOf_25 ?_
        refine ⟨fun j' tg hj' hx => ?_, fun hx => ?_⟩
        · have ej : j' = j ∧ j' < 8 := by
            have hl : j' < 8 := by
              have := List.getElem?_eq_some_iff.mp hj'
              exact this.1
            rw [hw, Nat.zero_add, nI_eq (by omega) (by omega)] at hx
            exact ⟨hx.symm, hl⟩
          obtain ⟨rfl, hl⟩ := ej
          rcases (by omega : j' = 0 ∨ j' = 1 ∨ j' = 2 ∨ j' = 3 ∨ j' = 4 ∨ j' = 5 ∨ j' = 6 ∨ j' = 7) with q | q | q | q | q | q | q | q <;> subst q <;> cases hj'
          · refine blk kX5_houseOf_72 ?_
            refine ⟨_, _, hM.1, rfl, hM.corner_.1, ?_⟩
            refine ⟨_, _, hM.corner_.2.1, Or.inl rfl, x1, Nat.lt_of_lt_of_eq (by omega) hM.corner_.2.2.symm, ?_⟩
            exact ⟨trivial, by rw [← ea 0 (by decide)], r⟩
          · refine blk kX5_houseOf_79 ?_
            refine ⟨_, _, hM.1, rfl, hM.weak_.1, ?_⟩
            refine ⟨_, _, hM.weak_.2.1, Or.inl rfl, x1, Nat.lt_of_lt_of_eq (by omega) hM.weak_.2.2.symm, ?_⟩
            exact ⟨trivial, by rw [← ea 1 (by decide)], r⟩
          · refine blk kX5_houseOf_86 ?_
            refine ⟨_, _, hM.1, rfl, hM.day_.1, ?_⟩
            refine ⟨_, _, hM.day_.2.1, Or.inl rfl, x1, Nat.lt_of_lt_of_eq (by omega) hM.day_.2.2.symm, ?_⟩
            exact ⟨trivial, by rw [← ea 2 (by decide)], r⟩
          · refine blk kX5_houseOf_93 ?_
            refine ⟨_, _, hM.1, rfl, hM.night_.1, ?_⟩
            refine ⟨_, _, hM.night_.2.1, Or.inl rfl, x1, Nat.lt_of_lt_of_eq (by omega) hM.night_.2.2.symm, ?_⟩
            exact ⟨trivial, by rw [← ea 3 (by decide)], r⟩
          · refine blk kX5_houseOf_100 ?_
            refine ⟨_, _, hM.1, rfl, hM.cost_.1, ?_⟩
            refine ⟨_, _, hM.cost_.2.1, Or.inl rfl, x1, Nat.lt_of_lt_of_eq (by omega) hM.cost_.2.2.symm, ?_⟩
            exact ⟨trivial, by rw [← ea 4 (by decide)], r⟩
          · refine blk kX5_houseOf_107 ?_
            refine ⟨_, _, hM.1, rfl, hM.front_.1, ?_⟩
            refine ⟨_, _, hM.front_.2.1, Or.inl rfl, x1, Nat.lt_of_lt_of_eq (by omega) hM.front_.2.2.symm, ?_⟩
            exact ⟨trivial, by rw [← ea 5 (by decide)], r⟩
          · refine blk kX5_houseOf_114 ?_
            refine ⟨_, _, hM.1, rfl, hM.next_.1, ?_⟩
            refine ⟨_, _, hM.next_.2.1, Or.inl rfl, x1, Nat.lt_of_lt_of_eq (by omega) hM.next_.2.2.symm, ?_⟩
            exact ⟨trivial, by rw [← ea 6 (by decide)], r⟩
          · refine blk kX5_houseOf_121 ?_
            refine ⟨_, _, hM.1, rfl, hM.steps_.1, ?_⟩
            refine ⟨_, _, hM.steps_.2.1, Or.inl rfl, x1, Nat.lt_of_lt_of_eq (by omega) hM.steps_.2.2.symm, ?_⟩
            exact ⟨trivial, by rw [← ea 7 (by decide)], r⟩
        · have ej : j = 8 := by
            by_cases e : j < 8
            · exact absurd (by rw [hw, Nat.zero_add]) (hx j e)
            · omega
          subst ej
          refine blk kX5_houseOf_128 ?_
          refine ⟨_, _, hM.1, rfl, hM.propped_.1, ?_⟩
          refine ⟨_, _, hM.propped_.2.1, Or.inl rfl, x1, Nat.lt_of_lt_of_eq (by omega) hM.propped_.2.2.symm, ?_⟩
          exact ⟨trivial, by rw [← ea 8 (by decide)], r⟩
      · exact bad (fun q => c3 q.2.2)
def oFront (σ : Sg) (x y : Int32) : Value × Sg := if inH (gT σ) x ∧ -1 ≤ y ∧ y < nI (nSt (gT σ)) then (.int ((gT σ).2 9 x.toNatClampNeg), (setA σ.1 9 x.toNatClampNeg y, σ.2)) else (.int (-(nI 1) - nI 10), rfs σ 1)
theorem o_front {G : GG} {h : Hp} {m : Nat} {σ : Sg} {x y : Int32} (r : MRep m h σ) : Ct G mX5_front 1 0 0 [.ref m, .int x, .int y] h (PO m (oFront σ x y)) nX := by
  have hM := r.1
  obtain ⟨s, n, k, t⟩ := r.tw
  have hn := t.n10
  have hs := t.s12
  have en := t.1.nHo_
  have es := t.1.nSt_
  refine Ct.mk ok_mX5_front ?_
  unfold oFront
  have bad : ¬ (inH (gT σ) x ∧ -1 ≤ y ∧ y < nI (nSt (gT σ))) → WW G mX5_front (rmO 1 0 0) h (PO m (if inH (gT σ) x ∧ -1 ≤ y ∧ y < nI (nSt (gT σ)) then (.int ((gT σ).2 9 x.toNatClampNeg), (setA σ.1 9 x.toNatClampNeg y, σ.2)) else (.int (-(nI 1) - nI 10), rfs σ 1))) nX 21 [.ref m, .int x, .int y, dV] [] h 0 0 := by
    intro c
    rw [if_neg c]
    refine blk kX5_front_21 ?_
    refine callv_g hM.1 (noTen_PO (k := 1) r (by decide) rfl) (fun r1 h1 hO => ?_)
    obtain ⟨rfl, hr⟩ := hO
    exact ⟨trivial, rfl, hr⟩
  refine blk kX5_front_0 ?_
  refine callv_r hM.1 (c_isHouse hM t) ?_
  refine br_c (fun c1 => ?_) (fun c1 => ?_)
  · exact bad (fun q => bI_eq c1 (by have := q.1; unfold inH at this; rw [en] at this; exact this))
  · have c1 := bI_ne c1
    obtain ⟨x1, x2⟩ := inN_ix c1 (by omega)
    refine blk kX5_front_8 ?_
    refine br_c (fun c2 => ?_) (fun c2 => ?_)
    · exact bad (fun q => Int32.not_lt.mpr q.2.1 c2)
    · have c2 : ¬ y < -1 := c2
      refine blk kX5_front_13 ?_
      refine ⟨_, hM.1, rfl, ?_⟩
      refine br_c (fun c3 => ?_) (fun c3 => ?_)
      · have c3 : y < Fi h 29 m := c3
        rw [t.nS] at c3
        have c9 : inH (gT σ) x ∧ -1 ≤ y ∧ y < nI (nSt (gT σ)) := ⟨by unfold inH; rw [en]; exact c1, Int32.not_lt.mp c2, by rw [es]; exact c3⟩
        rw [if_pos c9]
        have hy : Rg (-1) ((s : Int) - 1) y := by
          refine ⟨?_, ?_⟩
          · have := Int32.le_iff_toInt_le.mp c9.2.1
            have e : (-1 : Int32).toInt = -1 := rfl
            omega
          · have := Int32.lt_iff_toInt_lt.mp c3
            rw [nI_toInt (by omega)] at this
            omega
        refine blk kX5_front_27 ?_
        refine ⟨_, _, hM.1, rfl, hM.front_.1, ?_⟩
        refine ⟨_, _, hM.front_.2.1, Or.inl rfl, x1, Nat.lt_of_lt_of_eq (by omega) hM.front_.2.2.symm, ?_⟩
        refine ⟨_, _, hM.1, rfl, hM.front_.1, ?_⟩
        refine ⟨_, hM.front_.2.1, x1, Nat.lt_of_lt_of_eq (by omega) hM.front_.2.2.symm, ?_⟩
        exact ⟨trivial, by rw [t.front_ x2], r.set_front t hy⟩
      · have c3 : ¬ y < Fi h 29 m := c3
        rw [t.nS] at c3
        exact bad (fun q => c3 (by rw [← es]; exact q.2.2))
def oNext (σ : Sg) (x y : Int32) : Value × Sg := if inH (gT σ) x ∧ (y = -1 ∨ inH (gT σ) y) then (if x = y then (.int (-(nI 6) - nI 10), rfs σ 6) else (.int ((gT σ).2 10 x.toNatClampNeg), (setA σ.1 10 x.toNatClampNeg y, σ.2))) else (.int (-(nI 1) - nI 10), rfs σ 1)
theorem o_next {G : GG} {h : Hp} {m : Nat} {σ : Sg} {x y : Int32} (r : MRep m h σ) : Ct G mX5_next 1 0 0 [.ref m, .int x, .int y] h (PO m (oNext σ x y)) nX := by
  have hM := r.1
  obtain ⟨s, n, k, t⟩ := r.tw
  have hn := t.n10
  have en := t.1.nHo_
  refine Ct.mk ok_mX5_next ?_
  unfold oNext
  have bad : ¬ (inH (gT σ) x ∧ (y = -1 ∨ inH (gT σ) y)) → WW G mX5_next (rmO 1 0 0) h (PO m (if inH (gT σ) x ∧ (y = -1 ∨ inH (gT σ) y) then (if x = y then (.int (-(nI 6) - nI 10), rfs σ 6) else (.int ((gT σ).2 10 x.toNatClampNeg), (setA σ.1 10 x.toNatClampNeg y, σ.2))) else (.int (-(nI 1) - nI 10), rfs σ 1))) nX 21 [.ref m, .int x, .int y, dV] [] h 0 0 := by
    intro c
    rw [if_neg c]
    refine blk kX5_next_21 ?_
    refine callv_g hM.1 (noTen_PO (k := 1) r (by decide) rfl) (fun r1 h1 hO => ?_)
    obtain ⟨rfl, hr⟩ := hO
    exact ⟨trivial, rfl, hr⟩
  refine blk kX5_next_0 ?_
  refine callv_r hM.1 (c_isHouse hM t) ?_
  refine br_c (fun c1 => ?_) (fun c1 => ?_)
  · exact bad (fun q => bI_eq c1 (by have := q.1; unfold inH at this; rw [en] at this; exact this))
  · have c1 := bI_ne c1
    obtain ⟨x1, x2⟩ := inN_ix c1 (by omega)
    have good : (y = -1 ∨ inN y n) → WW G mX5_next (rmO 1 0 0) h (PO m (if inH (gT σ) x ∧ (y = -1 ∨ inH (gT σ) y) then (if x = y then (.int (-(nI 6) - nI 10), rfs σ 6) else (.int ((gT σ).2 10 x.toNatClampNeg), (setA σ.1 10 x.toNatClampNeg y, σ.2))) else (.int (-(nI 1) - nI 10), rfs σ 1))) nX 27 [.ref m, .int x, .int y, dV] [] h 0 0 := by
      intro c
      rw [if_pos ⟨by unfold inH; rw [en]; exact c1, by unfold inH; rw [en]; exact c⟩]
      refine blk kX5_next_27 ?_
      refine brn_c (fun c2 => ?_) (fun c2 => ?_)
      · have c2 : ¬ x = y := c2
        rw [if_neg c2]
        have hy : Rg (-1) ((n : Int) - 1) y := by
          rcases c with c | c
          · rw [c]; exact ⟨by decide, by have : (-1 : Int32).toInt = -1 := rfl
                                         omega⟩
          · obtain ⟨y1, y2⟩ := inN_ix c (by omega)
            rw [y1]; exact rgN (by omega) (by omega) (by omega)
        refine blk kX5_next_39 ?_
        refine ⟨_, _, hM.1, rfl, hM.next_.1, ?_⟩
        refine ⟨_, _, hM.next_.2.1, Or.inl rfl, x1, Nat.lt_of_lt_of_eq (by omega) hM.next_.2.2.symm, ?_⟩
        refine ⟨_, _, hM.1, rfl, hM.next_.1, ?_⟩
        refine ⟨_, hM.next_.2.1, x1, Nat.lt_of_lt_of_eq (by omega) hM.next_.2.2.symm, ?_⟩
        exact ⟨trivial, by rw [t.next_ x2], r.set_next t hy⟩
      · have c2 : x = y := c2
        rw [if_pos c2]
        refine blk kX5_next_32 ?_
        refine callv_g hM.1 (noTen_PO (k := 6) r (by decide) rfl) (fun r1 h1 hO => ?_)
        obtain ⟨rfl, hr⟩ := hO
        exact ⟨trivial, rfl, hr⟩
    refine blk kX5_next_8 ?_
    refine br_c (fun c2 => ?_) (fun c2 => ?_)
    · exact good (Or.inl c2)
    · have c2 : ¬ y = -1 := c2
      refine blk kX5_next_13 ?_
      refine callv_r hM.1 (c_isHouse hM t) ?_
      refine brn_c (fun c3 => ?_) (fun c3 => ?_)
      · exact good (Or.inr (bI_ne c3))
      · exact bad (fun q => q.2.elim c2 (fun z => bI_eq c3 (by unfold inH at z; rw [en] at z; exact z)))
def oProp (σ : Sg) (x b : Int32) : Value × Sg := if inH (gT σ) x then (if (gT σ).2 12 x.toNatClampNeg = (if b = 0 then nI 0 else nI 1) then (.int (nI 0), σ) else (.int (nI 1), (setA σ.1 12 x.toNatClampNeg (if b = 0 then nI 0 else nI 1), σ.2))) else noI σ 1
theorem o_prop {G : GG} {h : Hp} {m : Nat} {σ : Sg} {x b : Int32} (r : MRep m h σ) : Ct G mX5_prop 1 0 0 [.ref m, .int x, .int b] h (PO m (oProp σ x b)) nX := by
  have hM := r.1
  obtain ⟨s, n, k, t⟩ := r.tw
  have hn := t.n10
  have en := t.1.nHo_
  refine Ct.mk ok_mX5_prop ?_
  unfold oProp
  refine blk kX5_prop_0 ?_
  refine callv_r hM.1 (c_isHouse hM t) ?_
  refine brn_c (fun c1 => ?_) (fun c1 => ?_)
  · have c1 := bI_ne c1
    have c9 : inH (gT σ) x := by unfold inH; rw [en]; exact c1
    rw [if_pos c9]
    obtain ⟨x1, x2⟩ := inN_ix c1 (by omega)
    generalize ev : (if b = 0 then nI 0 else nI 1) = v
    have hv : Rg 0 1 v := by rw [← ev]; split <;> exact rgN (by decide) (by decide) (by decide)
    have j : ∀ u, u = v → WW G mX5_prop (rmO 1 0 0) h (PO m (if (gT σ).2 12 x.toNatClampNeg = v then (.int (nI 0), σ) else (.int (nI 1), (setA σ.1 12 x.toNatClampNeg v, σ.2)))) nX 23 [.ref m, .int x, .int b, dV] [.int u] h 0 0 := by
      intro u hu
      rw [hu]
      refine blk kX5_prop_23 ?_
      refine ⟨_, _, hM.1, rfl, hM.propped_.1, ?_⟩
      refine ⟨_, _, hM.propped_.2.1, Or.inl rfl, x1, Nat.lt_of_lt_of_eq (by omega) hM.propped_.2.2.symm, ?_⟩
      refine brn_c (fun c2 => ?_) (fun c2 => ?_)
      · have c2 : ¬ Ai h (m + 14) x.toNatClampNeg = v := c2
        rw [t.propped_ x2] at c2
        rw [if_neg c2]
        refine blk kX5_prop_36 ?_
        refine ⟨_, _, hM.1, rfl, hM.propped_.1, ?_⟩
        refine ⟨_, hM.propped_.2.1, x1, Nat.lt_of_lt_of_eq (by omega) hM.propped_.2.2.symm, ?_⟩
        exact ⟨trivial, rfl, r.set_propped t hv⟩
      · have c2 : Ai h (m + 14) x.toNatClampNeg = v := c2
        rw [t.propped_ x2] at c2
        rw [if_pos c2]
        refine blk kX5_prop_34 ?_
        exact ⟨trivial, rfl, r⟩
    refine blk kX5_prop_14 ?_
    refine br_c (fun c2 => ?_) (fun c2 => ?_)
    · have c2 : b = 0 := c2
      refine blk kX5_prop_22 ?_
      exact j _ (by rw [← ev, if_pos c2])
    · have c2 : ¬ b = 0 := c2
      refine blk kX5_prop_18 ?_
      exact j _ (by rw [← ev, if_neg c2])
  · have c1 := bI_eq c1
    have c9 : ¬ inH (gT σ) x := by unfold inH; rw [en]; exact c1
    rw [if_neg c9]
    refine blk kX5_prop_8 ?_
    refine callv_g hM.1 (no_PO (k := 1) r (by decide) rfl) (fun r1 h1 hO => ?_)
    obtain ⟨rfl, hr⟩ := hO
    exact ⟨trivial, rfl, hr⟩
def edV (T : Tw) (i : Nat) (w v : Int32) : Option Nat := if w = 0 ∧ 0 ≤ v ∧ v ≤ nI 99 then some 6 else if w = nI 1 ∧ 0 ≤ v ∧ v ≤ nI 99 then some 7 else if w = nI 2 ∧ 0 ≤ v ∧ v ≤ nI 2 then some 11 else none
def alE (σ : Sg) (x v : Int32) : Option Nat → Value × Sg
  | some a => (.int ((gT σ).2 a x.toNatClampNeg), (setA σ.1 a x.toNatClampNeg v, σ.2))
  | none => noI σ 6
def oAlter (σ : Sg) (x w v : Int32) : Value × Sg := if inH (gT σ) x then alE σ x v (edV (gT σ) x.toNatClampNeg w v) else noI σ 1
theorem rg_of {v : Int32} {N : Nat} (h1 : 0 ≤ v) (h2 : v ≤ nI N) (hN : N < 2 ^ 31) : Rg 0 N v := by
  rw [Int32.le_iff_toInt_le, Int32.toInt_zero] at h1
  rw [Int32.le_iff_toInt_le, nI_toInt hN] at h2
  exact ⟨h1, h2⟩
theorem o_alter {G : GG} {h : Hp} {m : Nat} {σ : Sg} {x w v : Int32} (r : MRep m h σ) : Ct G mX5_alter 1 0 0 [.ref m, .int x, .int w, .int v] h (PO m (oAlter σ x w v)) nX := by
  have hM := r.1
  obtain ⟨s, n, k, t⟩ := r.tw
  have hn := t.n10
  have en := t.1.nHo_
  refine Ct.mk ok_mX5_alter ?_
  unfold oAlter
  refine blk kX5_alter_0 ?_
  refine callv_r hM.1 (c_isHouse hM t) ?_
  refine brn_c (fun c1 => ?_) (fun c1 => ?_)
  · have c1 := bI_ne c1
    have c9 : inH (gT σ) x := by unfold inH; rw [en]; exact c1
    rw [if_pos c9]
    obtain ⟨x1, x2⟩ := inN_ix c1 (by omega)
    obtain ⟨E, eE⟩ : ∃ E, E = edV (gT σ) x.toNatClampNeg w v := ⟨_, rfl⟩
    rw [← eE]
    unfold edV at eE
    have j111 : E = none → WW G mX5_alter (rmO 1 0 0) h (PO m (alE σ x v E)) nX 111 [.ref m, .int x, .int w, .int v, dV] [] h 0 0 := by
      intro e
      rw [e]
      refine blk kX5_alter_111 ?_
      refine callv_g hM.1 (no_PO (k := 6) r (by decide) rfl) (fun r1 h1 hO => ?_)
      obtain ⟨rfl, hr⟩ := hO
      exact ⟨trivial, rfl, hr⟩
    have j79 : ¬ (w = 0 ∧ 0 ≤ v ∧ v ≤ nI 99) → ¬ (w = nI 1 ∧ 0 ≤ v ∧ v ≤ nI 99) → WW G mX5_alter (rmO 1 0 0) h (PO m (alE σ x v E)) nX 79 [.ref m, .int x, .int w, .int v, dV] [] h 0 0 := by
      intro d1 d2
      rw [if_neg d1, if_neg d2] at eE
      refine blk kX5_alter_79 ?_
      refine brn_c (fun c2 => ?_) (fun c2 => ?_)
      · exact j111 (by rw [eE, if_neg (fun q => c2 q.1)])
      · refine blk kX5_alter_84 ?_
        refine br_c (fun c3 => ?_) (fun c3 => ?_)
        · exact j111 (by rw [eE, if_neg (fun q => Int32.not_lt.mpr q.2.1 c3)])
        · refine blk kX5_alter_88 ?_
          refine br_c (fun c4 => ?_) (fun c4 => ?_)
          · exact j111 (by rw [eE, if_neg (fun q => Int32.not_lt.mpr q.2.2 c4)])
          · have d3 : w = nI 2 ∧ 0 ≤ v ∧ v ≤ nI 2 := ⟨c2, Int32.not_lt.mp c3, Int32.not_lt.mp c4⟩
            rw [if_pos d3] at eE
            rw [eE]
            refine blk kX5_alter_93 ?_
            refine ⟨_, _, hM.1, rfl, hM.steps_.1, ?_⟩
            refine ⟨_, _, hM.steps_.2.1, Or.inl rfl, x1, Nat.lt_of_lt_of_eq (by omega) hM.steps_.2.2.symm, ?_⟩
            refine ⟨_, _, hM.1, rfl, hM.steps_.1, ?_⟩
            refine ⟨_, hM.steps_.2.1, x1, Nat.lt_of_lt_of_eq (by omega) hM.steps_.2.2.symm, ?_⟩
            refine blk kX5_alter_118 ?_
            exact ⟨trivial, by rw [t.steps_ x2]; rfl, r.set_steps t (rg_of d3.2.1 d3.2.2 (by decide))⟩
    have j46 : ¬ (w = 0 ∧ 0 ≤ v ∧ v ≤ nI 99) → WW G mX5_alter (rmO 1 0 0) h (PO m (alE σ x v E)) nX 46 [.ref m, .int x, .int w, .int v, dV] [] h 0 0 := by
      intro d1
      refine blk kX5_alter_46 ?_
      refine brn_c (fun c2 => ?_) (fun c2 => ?_)
      · exact j79 d1 (fun q => c2 q.1)
      · refine blk kX5_alter_51 ?_
        refine br_c (fun c3 => ?_) (fun c3 => ?_)
        · exact j79 d1 (fun q => Int32.not_lt.mpr q.2.1 c3)
        · refine blk kX5_alter_55 ?_
          refine br_c (fun c4 => ?_) (fun c4 => ?_)
          · exact j79 d1 (fun q => Int32.not_lt.mpr q.2.2 c4)
          · have d3 : w = nI 1 ∧ 0 ≤ v ∧ v ≤ nI 99 := ⟨c2, Int32.not_lt.mp c3, Int32.not_lt.mp c4⟩
            rw [if_neg d1, if_pos d3] at eE
            rw [eE]
            refine blk kX5_alter_61 ?_
            refine ⟨_, _, hM.1, rfl, hM.night_.1, ?_⟩
            refine ⟨_, _, hM.night_.2.1, Or.inl rfl, x1, Nat.lt_of_lt_of_eq (by omega) hM.night_.2.2.symm, ?_⟩
            refine ⟨_, _, hM.1, rfl, hM.night_.1, ?_⟩
            refine ⟨_, hM.night_.2.1, x1, Nat.lt_of_lt_of_eq (by omega) hM.night_.2.2.symm, ?_⟩
            refine blk kX5_alter_118 ?_
            exact ⟨trivial, by rw [t.night_ x2]; rfl, r.set_night t (rg_of d3.2.1 d3.2.2 (by decide))⟩
    refine blk kX5_alter_14 ?_
    refine brn_c (fun c2 => ?_) (fun c2 => ?_)
    · exact j46 (fun q => c2 q.1)
    · refine blk kX5_alter_18 ?_
      refine br_c (fun c3 => ?_) (fun c3 => ?_)
      · exact j46 (fun q => Int32.not_lt.mpr q.2.1 c3)
      · refine blk kX5_alter_22 ?_
        refine br_c (fun c4 => ?_) (fun c4 => ?_)
        · exact j46 (fun q => Int32.not_lt.mpr q.2.2 c4)
        · have d3 : w = 0 ∧ 0 ≤ v ∧ v ≤ nI 99 := ⟨c2, Int32.not_lt.mp c3, Int32.not_lt.mp c4⟩
          rw [if_pos d3] at eE
          rw [eE]
          refine blk kX5_alter_28 ?_
          refine ⟨_, _, hM.1, rfl, hM.day_.1, ?_⟩
          refine ⟨_, _, hM.day_.2.1, Or.inl rfl, x1, Nat.lt_of_lt_of_eq (by omega) hM.day_.2.2.symm, ?_⟩
          refine ⟨_, _, hM.1, rfl, hM.day_.1, ?_⟩
          refine ⟨_, hM.day_.2.1, x1, Nat.lt_of_lt_of_eq (by omega) hM.day_.2.2.symm, ?_⟩
          refine blk kX5_alter_118 ?_
          exact ⟨trivial, by rw [t.day_ x2]; rfl, r.set_day t (rg_of d3.2.1 d3.2.2 (by decide))⟩
  · have c1 := bI_eq c1
    have c9 : ¬ inH (gT σ) x := by unfold inH; rw [en]; exact c1
    rw [if_neg c9]
    refine blk kX5_alter_8 ?_
    refine callv_g hM.1 (no_PO (k := 1) r (by decide) rfl) (fun r1 h1 hO => ?_)
    obtain ⟨rfl, hr⟩ := hO
    exact ⟨trivial, rfl, hr⟩
/-! what is asked of a town -/
theorem TOK.setN3 {T : Tw} {s n k : Nat} {v : Int32} (t : TOK T s n k) (hv : Rg 1 999 v) : TOK (setS T 3 v) s n k := ⟨t.1, t.2.1, t.2.2.1, ⟨hv, t.2.2.2.1.2⟩, t.2.2.2.2⟩
theorem TOK.setN4 {T : Tw} {s n k : Nat} {v : Int32} (t : TOK T s n k) (hv : Rg 0 10 v) : TOK (setS T 4 v) s n k := ⟨t.1, t.2.1, t.2.2.1, ⟨t.2.2.2.1.1, hv, t.2.2.2.1.2.2⟩, t.2.2.2.2⟩
theorem TOK.setN5 {T : Tw} {s n k : Nat} {v : Int32} (t : TOK T s n k) (hv : Rg 0 10 v) : TOK (setS T 5 v) s n k := ⟨t.1, t.2.1, t.2.2.1, ⟨t.2.2.2.1.1, t.2.2.2.1.2.1, hv⟩, t.2.2.2.2⟩
theorem MTw.setN_ {m j : Nat} {h : Hp} {T : Tw} {s n k : Nat} {v : Int32} (t : MTw m h T s n k) (ok : TOK (setS T j v) s n k) : MTw m (sFi h (29 + j) m v) (setS T j v) s n k := by
  refine ⟨ok, fun i hi => ?_, t.2.2⟩
  show up2 (Fi h) (29 + j) m v (29 + i) m = up1 T.1 j v i
  rw [up2_ap, up1_ap]
  by_cases e : i = j
  · rw [if_pos ⟨by omega, rfl⟩, if_pos e]
  · rw [if_neg (by omega), if_neg e]; exact t.2.1 i hi
def askW (w v : Int32) : Option Nat := if w = 0 ∧ nI 1 ≤ v ∧ v ≤ nI 999 then some 3 else if w = nI 1 ∧ 0 ≤ v ∧ v ≤ nI 10 then some 4 else if w = nI 2 ∧ 0 ≤ v ∧ v ≤ nI 10 then some 5 else none
def asE (σ : Sg) (v : Int32) : Option Nat → Value × Sg
  | some j => (.int ((gT σ).1 j), (setS σ.1 j v, σ.2))
  | none => noI σ 6
def oAsk (σ : Sg) (w v : Int32) : Value × Sg := asE σ v (askW w v)
theorem o_ask {G : GG} {h : Hp} {m : Nat} {σ : Sg} {w v : Int32} (r : MRep m h σ) : Ct G mX5_ask 1 0 0 [.ref m, .int w, .int v] h (PO m (oAsk σ w v)) nX := by
  have hM := r.1
  obtain ⟨s, n, k, t⟩ := r.tw
  refine Ct.mk ok_mX5_ask ?_
  unfold oAsk
  obtain ⟨E, eE⟩ : ∃ E, E = askW w v := ⟨_, rfl⟩
  rw [← eE]
  unfold askW at eE
  have j85 : E = none → WW G mX5_ask (rmO 1 0 0) h (PO m (asE σ v E)) nX 85 [.ref m, .int w, .int v, dV] [] h 0 0 := by
    intro e
    rw [e]
    refine blk kX5_ask_85 ?_
    refine callv_g hM.1 (no_PO (k := 6) r (by decide) rfl) (fun r1 h1 hO => ?_)
    obtain ⟨rfl, hr⟩ := hO
    exact ⟨trivial, rfl, hr⟩
  have j57 : ¬ (w = 0 ∧ nI 1 ≤ v ∧ v ≤ nI 999) → ¬ (w = nI 1 ∧ 0 ≤ v ∧ v ≤ nI 10) → WW G mX5_ask (rmO 1 0 0) h (PO m (asE σ v E)) nX 57 [.ref m, .int w, .int v, dV] [] h 0 0 := by
    intro d1 d2
    rw [if_neg d1, if_neg d2] at eE
    refine blk kX5_ask_57 ?_
    refine brn_c (fun c2 => ?_) (fun c2 => ?_)
    · exact j85 (by rw [eE, if_neg (fun q => c2 q.1)])
    · refine blk kX5_ask_62 ?_
      refine br_c (fun c3 => ?_) (fun c3 => ?_)
      · exact j85 (by rw [eE, if_neg (fun q => Int32.not_lt.mpr q.2.1 c3)])
      · refine blk kX5_ask_66 ?_
        refine br_c (fun c4 => ?_) (fun c4 => ?_)
        · exact j85 (by rw [eE, if_neg (fun q => Int32.not_lt.mpr q.2.2 c4)])
        · have d3 : w = nI 2 ∧ 0 ≤ v ∧ v ≤ nI 10 := ⟨c2, Int32.not_lt.mp c3, Int32.not_lt.mp c4⟩
          rw [if_pos d3] at eE
          rw [eE]
          refine blk kX5_ask_72 ?_
          refine ⟨_, hM.1, rfl, ?_⟩
          refine ⟨_, hM.1, rfl, ?_⟩
          refine blk kX5_ask_92 ?_
          exact ⟨trivial, by rw [t.daypart_]; rfl, r.tk (TK.sFi rfl) (t.setN_ (j := 5) (t.1.setN5 (rg_of d3.2.1 d3.2.2 (by decide))))⟩
  have j29 : ¬ (w = 0 ∧ nI 1 ≤ v ∧ v ≤ nI 999) → WW G mX5_ask (rmO 1 0 0) h (PO m (asE σ v E)) nX 29 [.ref m, .int w, .int v, dV] [] h 0 0 := by
    intro d1
    refine blk kX5_ask_29 ?_
    refine brn_c (fun c2 => ?_) (fun c2 => ?_)
    · exact j57 d1 (fun q => c2 q.1)
    · refine blk kX5_ask_34 ?_
      refine br_c (fun c3 => ?_) (fun c3 => ?_)
      · exact j57 d1 (fun q => Int32.not_lt.mpr q.2.1 c3)
      · refine blk kX5_ask_38 ?_
        refine br_c (fun c4 => ?_) (fun c4 => ?_)
        · exact j57 d1 (fun q => Int32.not_lt.mpr q.2.2 c4)
        · have d3 : w = nI 1 ∧ 0 ≤ v ∧ v ≤ nI 10 := ⟨c2, Int32.not_lt.mp c3, Int32.not_lt.mp c4⟩
          rw [if_neg d1, if_pos d3] at eE
          rw [eE]
          refine blk kX5_ask_44 ?_
          refine ⟨_, hM.1, rfl, ?_⟩
          refine ⟨_, hM.1, rfl, ?_⟩
          refine blk kX5_ask_92 ?_
          exact ⟨trivial, by rw [t.shut_]; rfl, r.tk (TK.sFi rfl) (t.setN_ (j := 4) (t.1.setN4 (rg_of d3.2.1 d3.2.2 (by decide))))⟩
  refine blk kX5_ask_0 ?_
  refine brn_c (fun c2 => ?_) (fun c2 => ?_)
  · exact j29 (fun q => c2 q.1)
  · refine blk kX5_ask_4 ?_
    refine br_c (fun c3 => ?_) (fun c3 => ?_)
    · exact j29 (fun q => Int32.not_lt.mpr q.2.1 c3)
    · refine blk kX5_ask_9 ?_
      refine br_c (fun c4 => ?_) (fun c4 => ?_)
      · exact j29 (fun q => Int32.not_lt.mpr q.2.2 c4)
      · have d3 : w = 0 ∧ nI 1 ≤ v ∧ v ≤ nI 999 := ⟨c2, Int32.not_lt.mp c3, Int32.not_lt.mp c4⟩
        rw [if_pos d3] at eE
        rw [eE]
        have hv : Rg 1 999 v := by
          have h1 := Int32.le_iff_toInt_le.mp d3.2.1
          have h2 := Int32.le_iff_toInt_le.mp d3.2.2
          rw [nI_toInt (by decide)] at h1 h2
          exact ⟨h1, h2⟩
        refine blk kX5_ask_16 ?_
        refine ⟨_, hM.1, rfl, ?_⟩
        refine ⟨_, hM.1, rfl, ?_⟩
        refine blk kX5_ask_92 ?_
        exact ⟨trivial, by rw [t.coin_]; rfl, r.tk (TK.sFi rfl) (t.setN_ (j := 3) (t.1.setN3 hv))⟩
