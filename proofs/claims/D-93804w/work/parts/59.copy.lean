set_option maxRecDepth 100000
def cyC (C : Nat → Int64) (A B n : Nat) : Nat → Int64 := fun t => if B ≤ t ∧ t < B + n then C (A + (t - B)) else C t
theorem cyC_s {C : Nat → Int64} {A B n : Nat} : up1 (cyC C A B n) (B + n) (C (A + n)) = cyC C A B (n + 1) := by
  funext j
  rw [up1_ap]
  unfold cyC
  by_cases e : j = B + n
  · rw [if_pos e, if_pos (by omega), show j - B = n by omega]
  · rw [if_neg e]
    by_cases e2 : B ≤ j ∧ j < B + n
    · rw [if_pos e2, if_pos (by omega)]
    · rw [if_neg e2, if_neg (by omega)]
abbrev cpB (σ : Sg) (p q : Nat) : Prop := gS σ 0 p = nI 2 ∨ gS σ 0 q = nI 2 ∨ (gS σ 0 p = nI 1 ∧ gS σ 0 q = nI 1 ∧ ¬ gS σ 1 p = gS σ 1 q)
def cpO (σ : Sg) (p q : Nat) (i j n : Int32) : Value × Sg := if cpB σ p q then noI σ 2 else if gS σ 0 p = 0 ∨ gS σ 0 q = 0 then noI σ 3 else if n < 0 then noI σ 4 else if 0 ≤ i ∧ 0 ≤ j ∧ i ≤ gS σ 2 p - n ∧ j ≤ gS σ 2 q - n then (.int (nI 1), sgX σ (gS σ) (cyC (gC σ) (120 * p + i.toNatClampNeg) (120 * q + j.toNatClampNeg) n.toNatClampNeg)) else noI σ 5
def oCopy (σ : Sg) (p q i j n : Int32) : Value × Sg := if inN p 8 ∧ inN q 8 then cpO σ p.toNatClampNeg q.toNatClampNeg i j n else noI σ 1
theorem o_copy {G : GG} {h : Hp} {m : Nat} {σ : Sg} {p q i j n : Int32} (r : MRep m h σ) : Ct G mX5_copy 1 0 0 [.ref m, .int p, .int q, .int i, .int j, .int n] h (PO m (oCopy σ p q i j n)) nX := by
  have hM := r.1
  have hM0 := hM
  refine Ct.mk ok_mX5_copy ?_
  unfold oCopy
  have bad : ¬ (inN p 8 ∧ inN q 8) → WW G mX5_copy (rmO 1 0 0) h (PO m (if inN p 8 ∧ inN q 8 then cpO σ p.toNatClampNeg q.toNatClampNeg i j n else noI σ 1)) nX 16 [.ref m, .int p, .int q, .int i, .int j, .int n, dV] [] h 0 0 := by
    intro c
    rw [if_neg c]
    refine blk kX5_copy_16 ?_
    refine callv_g hM.1 (no_PO (k := 1) r (by decide) rfl) (fun r1 h1 hO => ?_)
    obtain ⟨rfl, hr⟩ := hO
    exact ⟨trivial, rfl, hr⟩
  refine blk kX5_copy_0 ?_
  refine callv_r hM.1 (c_isShelf) ?_
  refine br_c (fun c1 => bad (fun q => bI_eq c1 q.1)) (fun c1 => ?_)
  have c1 := bI_ne c1
  refine blk kX5_copy_8 ?_
  refine callv_r hM.1 (c_isShelf) ?_
  refine brn_c (fun c2 => ?_) (fun c2 => bad (fun q => bI_eq c2 q.2))
  have c2 := bI_ne c2
  rw [if_pos ⟨c1, c2⟩]
  obtain ⟨p1, p2⟩ := inN_ix c1 (by decide)
  obtain ⟨q1, q2⟩ := inN_ix c2 (by decide)
  generalize p.toNatClampNeg = P at *
  generalize q.toNatClampNeg = Q at *
  have ep0 : Ai h (m + 15) P = gS σ 0 P := r.sh_ (a := 0) (by decide) p2
  have eq0 : Ai h (m + 15) Q = gS σ 0 Q := r.sh_ (a := 0) (by decide) q2
  have ep1 : Ai h (m + 16) P = gS σ 1 P := r.sh_ (a := 1) (by decide) p2
  have eq1 : Ai h (m + 16) Q = gS σ 1 Q := r.sh_ (a := 1) (by decide) q2
  have ep2 : Ai h (m + 17) P = gS σ 2 P := r.sh_ (a := 2) (by decide) p2
  have eq2 : Ai h (m + 17) Q = gS σ 2 Q := r.sh_ (a := 2) (by decide) q2
  unfold cpO
  obtain ⟨R5, eR5⟩ : ∃ R : Value × Sg, R = if 0 ≤ i ∧ 0 ≤ j ∧ i ≤ gS σ 2 P - n ∧ j ≤ gS σ 2 Q - n then (.int (nI 1), sgX σ (gS σ) (cyC (gC σ) (120 * P + i.toNatClampNeg) (120 * Q + j.toNatClampNeg) n.toNatClampNeg)) else noI σ 5 := ⟨_, rfl⟩
  rw [← eR5]
  have j77 : cpB σ P Q → WW G mX5_copy (rmO 1 0 0) h (PO m (if cpB σ P Q then noI σ 2 else if gS σ 0 P = 0 ∨ gS σ 0 Q = 0 then noI σ 3 else if n < 0 then noI σ 4 else R5)) nX 77 [.ref m, .int p, .int q, .int i, .int j, .int n, dV] [] h 0 0 := by
    intro c
    rw [if_pos c]
    refine blk kX5_copy_77 ?_
    refine callv_g hM.1 (no_PO (k := 2) r (by decide) rfl) (fun r1 h1 hO => ?_)
    obtain ⟨rfl, hr⟩ := hO
    exact ⟨trivial, rfl, hr⟩
  have j84 : ¬ cpB σ P Q → WW G mX5_copy (rmO 1 0 0) h (PO m (if cpB σ P Q then noI σ 2 else if gS σ 0 P = 0 ∨ gS σ 0 Q = 0 then noI σ 3 else if n < 0 then noI σ 4 else R5)) nX 84 [.ref m, .int p, .int q, .int i, .int j, .int n, dV] [] h 0 0 := by
    intro d1
    rw [if_neg d1]
    have j102 : (gS σ 0 P = 0 ∨ gS σ 0 Q = 0) → WW G mX5_copy (rmO 1 0 0) h (PO m (if gS σ 0 P = 0 ∨ gS σ 0 Q = 0 then noI σ 3 else if n < 0 then noI σ 4 else R5)) nX 102 [.ref m, .int p, .int q, .int i, .int j, .int n, dV] [] h 0 0 := by
      intro c
      rw [if_pos c]
      refine blk kX5_copy_102 ?_
      refine callv_g hM.1 (no_PO (k := 3) r (by decide) rfl) (fun r1 h1 hO => ?_)
      obtain ⟨rfl, hr⟩ := hO
      exact ⟨trivial, rfl, hr⟩
    refine blk kX5_copy_84 ?_
    refine ⟨_, _, hM.1, rfl, hM.held_.1, ?_⟩
    refine ⟨P, _, hM.held_.2.1, Or.inl rfl, p1, Nat.lt_of_lt_of_eq (by omega) hM.held_.2.2.symm, ?_⟩
    refine br_c (fun c3 => j102 (Or.inl (by rw [← ep0]; exact c3))) (fun c3 => ?_)
    have c3 : ¬ Ai h (m + 15) P = 0 := c3
    rw [ep0] at c3
    refine blk kX5_copy_93 ?_
    refine ⟨_, _, hM.1, rfl, hM.held_.1, ?_⟩
    refine ⟨Q, _, hM.held_.2.1, Or.inl rfl, q1, Nat.lt_of_lt_of_eq (by omega) hM.held_.2.2.symm, ?_⟩
    refine brn_c (fun c4 => ?_) (fun c4 => j102 (Or.inr (by rw [← eq0]; exact c4)))
    have c4 : ¬ Ai h (m + 15) Q = 0 := c4
    rw [eq0] at c4
    rw [if_neg (fun q => q.elim c3 c4)]
    have hp1 : gS σ 0 P = nI 1 := by
      rcases r.sok P p2 with z | z | z
      · exact absurd z c3
      · exact z.1
      · exact absurd (Or.inl z.1) d1
    have hq1 : gS σ 0 Q = nI 1 := by
      rcases r.sok Q q2 with z | z | z
      · exact absurd z c4
      · exact z.1
      · exact absurd (Or.inr (Or.inl z.1)) d1
    obtain ⟨Z1, Z2⟩ := ((r.sok P p2).row hp1).2.ix (N := 121) (by decide)
    obtain ⟨Y1, Y2⟩ := ((r.sok Q q2).row hq1).2.ix (N := 121) (by decide)
    generalize (gS σ 2 P).toNatClampNeg = Z at *
    generalize (gS σ 2 Q).toNatClampNeg = Y at *
    refine blk kX5_copy_109 ?_
    refine br_c (fun c5 => ?_) (fun c5 => ?_)
    · have c5 : ¬ n < 0 := Int32.not_lt.mpr c5
      rw [if_neg c5]
      obtain ⟨n1, n2⟩ := nat_of c5
      have j157 : ¬ (0 ≤ i ∧ 0 ≤ j ∧ i ≤ gS σ 2 P - n ∧ j ≤ gS σ 2 Q - n) → WW G mX5_copy (rmO 1 0 0) h (PO m R5) nX 157 [.ref m, .int p, .int q, .int i, .int j, .int n, dV] [] h 0 0 := by
        intro c
        rw [if_neg c] at eR5
        rw [eR5]
        refine blk kX5_copy_157 ?_
        refine callv_g hM.1 (no_PO (k := 5) r (by decide) rfl) (fun r1 h1 hO => ?_)
        obtain ⟨rfl, hr⟩ := hO
        exact ⟨trivial, rfl, hr⟩
      refine blk kX5_copy_121 ?_
      refine br_c (fun c6 => j157 (fun q => Int32.not_lt.mpr q.1 c6)) (fun c6 => ?_)
      have c6 : ¬ i < 0 := c6
      refine blk kX5_copy_125 ?_
      refine br_c (fun c7 => j157 (fun q => Int32.not_lt.mpr q.2.1 c7)) (fun c7 => ?_)
      have c7 : ¬ j < 0 := c7
      refine blk kX5_copy_130 ?_
      refine ⟨_, _, hM.1, rfl, hM.size_.1, ?_⟩
      refine ⟨P, _, hM.size_.2.1, Or.inl rfl, p1, Nat.lt_of_lt_of_eq (by omega) hM.size_.2.2.symm, ?_⟩
      refine br_c (fun c8 => j157 (fun q => Int32.not_lt.mpr q.2.2.1 (by rw [← ep2]; exact c8))) (fun c8 => ?_)
      have c8 : ¬ Ai h (m + 17) P - n < i := c8
      rw [ep2] at c8
      have c8 := Int32.not_lt.mp c8
      refine blk kX5_copy_143 ?_
      refine ⟨_, _, hM.1, rfl, hM.size_.1, ?_⟩
      refine ⟨Q, _, hM.size_.2.1, Or.inl rfl, q1, Nat.lt_of_lt_of_eq (by omega) hM.size_.2.2.symm, ?_⟩
      refine br_c (fun c9 => ?_) (fun c9 => j157 (fun q => c9 (by have := q.2.2.2; rw [← eq2] at this; exact this)))
      have c9 : j ≤ Ai h (m + 17) Q - n := c9
      rw [eq2] at c9
      rw [if_pos ⟨Int32.not_lt.mp c6, Int32.not_lt.mp c7, c8, c9⟩] at eR5
      obtain ⟨i1, i2⟩ := nat_of c6
      obtain ⟨j1, j2⟩ := nat_of c7
      generalize i.toNatClampNeg = I at *
      generalize j.toNatClampNeg = J at *
      generalize n.toNatClampNeg = N at *
      have hI : I + N ≤ Z := by
        have := Int32.le_iff_toInt_le.mp c8
        rw [i1, n1, Z1, sub_toInt (by omega) n2, nI_toInt i2] at this
        omega
      have hJ : J + N ≤ Y := by
        have := Int32.le_iff_toInt_le.mp c9
        rw [j1, n1, Y1, sub_toInt (by omega) n2, nI_toInt j2] at this
        omega
      have second : ∀ (h1 : Hp), MRep m h1 σ → (∀ c, c < N → Al h1 (m + 21) c = gC σ (120 * P + I + c)) → ∀ (w c : Nat) (z : Int32) (h' : Hp), c + w = N → z = nI c → FQ m [15, 16, 17, 18, 19] [20] [] h1 h' → (∀ b j, b < 5 → j < 8 → Ai h' (m + (15 + b)) j = gS σ b j) → (∀ t, t < 960 → Al h' (m + 20) t = cyC (gC σ) (120 * P + I) (120 * Q + J) c t) → WW G mX5_copy (rmO 1 0 0) h (PO m R5) nX 204 [.ref m, .int p, .int q, .int i, .int j, .int n, .int z] [] h' 0 0 := by
        intro h1 r1 hcar w
        induction w with
        | zero =>
          intro c z h' hw hz f hS hC
          have hc : N = c := by omega
          subst hc
          refine blk kX5_copy_204 ?_
          refine br_t (by rw [hz, n1]; exact Int32.le_refl _) ?_
          refine blk kX5_copy_239 ?_
          exact ⟨trivial, by rw [eR5], by rw [eR5]; exact r1.shelf f hS hC r.sok⟩
        | succ w ih =>
          intro c z h' hw hz f hS hC
          have hc : c < N := by omega
          have hM := f.MSh r1.1
          refine blk kX5_copy_204 ?_
          refine br_f (by rw [hz, n1]; exact nI_ge hc (by omega)) ?_
          have e1 : nI 120 * q + j + z = nI (120 * Q + J + c) := by rw [q1, j1, hz, pk_mul, nI_add, nI_add]
          refine blk kX5_copy_211 ?_
          refine ⟨_, _, hM.1, rfl, hM.cells_.1, ?_⟩
          refine ⟨_, _, hM.1, rfl, hM.carried_.1, ?_⟩
          refine ⟨c, hM.carried_.2.1, hz, Nat.lt_of_lt_of_eq (by omega) hM.carried_.2.2.symm, ?_⟩
          refine ⟨120 * Q + J + c, hM.cells_.2.1, e1, Nat.lt_of_lt_of_eq (by omega) hM.cells_.2.2.symm, ?_⟩
          refine ih (c + 1) _ _ (by omega) (by rw [hz]; exact nI_add c 1) (f.tr (FQ.sAl (by decide))) hS (fun t ht => ?_)
          rw [← cyC_s, up1_ap]
          show up2 (Al h') (m + 20) (120 * Q + J + c) (Al h' (m + 21) c) (m + 20) t = _
          rw [up2_ap, f.2.2.2 21 (by decide), hcar c hc]
          by_cases e : t = 120 * Q + J + c
          · rw [if_pos ⟨rfl, e⟩, if_pos e]
          · rw [if_neg (fun q => e q.2), if_neg e]; exact hC t ht
      have first : ∀ (w c : Nat) (z : Int32) (h' : Hp), c + w = N → z = nI c → MK m h h' → (∀ t, t < c → Al h' (m + 21) t = gC σ (120 * P + I + t)) → WW G mX5_copy (rmO 1 0 0) h (PO m R5) nX 167 [.ref m, .int p, .int q, .int i, .int j, .int n, .int z] [] h' 0 0 := by
        intro w
        induction w with
        | zero =>
          intro c z h' hw hz hk hcar
          have hc : N = c := by omega
          subst hc
          refine blk kX5_copy_167 ?_
          refine br_t (by rw [hz, n1]; exact Int32.le_refl _) ?_
          refine blk kX5_copy_201 ?_
          have r1 := r.mk hk
          refine second h' r1 hcar N 0 _ h' (by omega) rfl (FQ.rf h') (fun b j hb hj => r1.sh_ hb hj) (fun t ht => ?_)
          have : cyC (gC σ) (120 * P + I) (120 * Q + J) 0 = gC σ := by funext t; unfold cyC; rw [if_neg (by omega)]
          rw [this]; exact r1.2.2.2.2.1 t ht
        | succ w ih =>
          intro c z h' hw hz hk hcar
          have hc : c < N := by omega
          have hM := hk.MSh hM0
          have r1 := r.mk hk
          refine blk kX5_copy_167 ?_
          refine br_f (by rw [hz, n1]; exact nI_ge hc (by omega)) ?_
          have e1 : nI 120 * p + i + z = nI (120 * P + I + c) := by rw [p1, i1, hz, pk_mul, nI_add, nI_add]
          refine blk kX5_copy_174 ?_
          refine ⟨_, _, hM.1, rfl, hM.carried_.1, ?_⟩
          refine ⟨_, _, hM.1, rfl, hM.cells_.1, ?_⟩
          refine ⟨120 * P + I + c, hM.cells_.2.1, e1, Nat.lt_of_lt_of_eq (by omega) hM.cells_.2.2.symm, ?_⟩
          refine ⟨c, hM.carried_.2.1, hz, Nat.lt_of_lt_of_eq (by omega) hM.carried_.2.2.symm, ?_⟩
          refine ih (c + 1) _ _ (by omega) (by rw [hz]; exact nI_add c 1) (hk.tr (by rw [sAl_r]; exact MK.rAl rfl)) (fun t ht => ?_)
          show up2 (Al h') (m + 21) c (Al h' (m + 20) (120 * P + I + c)) (m + 21) t = _
          rw [up2_ap]
          by_cases e : t = c
          · rw [if_pos ⟨rfl, e⟩, e]; exact r1.2.2.2.2.1 _ (by omega)
          · rw [if_neg (fun q => e q.2)]; exact hcar t (by omega)
      refine blk kX5_copy_164 ?_
      exact first N 0 _ h (by omega) rfl (MK.rf m h) (fun t ht => absurd ht (Nat.not_lt_zero _))
    · have c5 : n < 0 := Int32.not_le.mp c5
      rw [if_pos c5]
      refine blk kX5_copy_114 ?_
      refine callv_g hM.1 (no_PO (k := 4) r (by decide) rfl) (fun r1 h1 hO => ?_)
      obtain ⟨rfl, hr⟩ := hO
      exact ⟨trivial, rfl, hr⟩
  refine blk kX5_copy_22 ?_
  refine ⟨_, _, hM.1, rfl, hM.held_.1, ?_⟩
  refine ⟨P, _, hM.held_.2.1, Or.inl rfl, p1, Nat.lt_of_lt_of_eq (by omega) hM.held_.2.2.symm, ?_⟩
  refine br_c (fun c3 => j77 (Or.inl (by rw [← ep0]; exact c3))) (fun c3 => ?_)
  have c3 : ¬ Ai h (m + 15) P = nI 2 := c3
  rw [ep0] at c3
  refine blk kX5_copy_32 ?_
  refine ⟨_, _, hM.1, rfl, hM.held_.1, ?_⟩
  refine ⟨Q, _, hM.held_.2.1, Or.inl rfl, q1, Nat.lt_of_lt_of_eq (by omega) hM.held_.2.2.symm, ?_⟩
  refine br_c (fun c4 => j77 (Or.inr (Or.inl (by rw [← eq0]; exact c4)))) (fun c4 => ?_)
  have c4 : ¬ Ai h (m + 15) Q = nI 2 := c4
  rw [eq0] at c4
  refine blk kX5_copy_42 ?_
  refine ⟨_, _, hM.1, rfl, hM.held_.1, ?_⟩
  refine ⟨P, _, hM.held_.2.1, Or.inl rfl, p1, Nat.lt_of_lt_of_eq (by omega) hM.held_.2.2.symm, ?_⟩
  refine brn_c (fun c5 => j84 (fun z => z.elim c3 (fun z => z.elim c4 (fun z => c5 (by have := z.1; rw [← ep0] at this; exact this))))) (fun c5 => ?_)
  have c5 : Ai h (m + 15) P = nI 1 := c5
  rw [ep0] at c5
  refine blk kX5_copy_52 ?_
  refine ⟨_, _, hM.1, rfl, hM.held_.1, ?_⟩
  refine ⟨Q, _, hM.held_.2.1, Or.inl rfl, q1, Nat.lt_of_lt_of_eq (by omega) hM.held_.2.2.symm, ?_⟩
  refine brn_c (fun c6 => j84 (fun z => z.elim c3 (fun z => z.elim c4 (fun z => c6 (by have := z.2.1; rw [← eq0] at this; exact this))))) (fun c6 => ?_)
  have c6 : Ai h (m + 15) Q = nI 1 := c6
  rw [eq0] at c6
  refine blk kX5_copy_62 ?_
  refine ⟨_, _, hM.1, rfl, hM.sort_.1, ?_⟩
  refine ⟨P, _, hM.sort_.2.1, Or.inl rfl, p1, Nat.lt_of_lt_of_eq (by omega) hM.sort_.2.2.symm, ?_⟩
  refine ⟨_, _, hM.1, rfl, hM.sort_.1, ?_⟩
  refine ⟨Q, _, hM.sort_.2.1, Or.inl rfl, q1, Nat.lt_of_lt_of_eq (by omega) hM.sort_.2.2.symm, ?_⟩
  refine br_c (fun c7 => ?_) (fun c7 => ?_)
  · have c7 : Ai h (m + 16) P = Ai h (m + 16) Q := c7
    rw [ep1, eq1] at c7
    exact j84 (fun z => z.elim c3 (fun z => z.elim c4 (fun z => z.2.2 c7)))
  · have c7 : ¬ Ai h (m + 16) P = Ai h (m + 16) Q := c7
    rw [ep1, eq1] at c7
    exact j77 (Or.inr (Or.inr ⟨c5, c6, c7⟩))
