set_option maxRecDepth 100000
def cpC (C : Nat → Int64) (i ia n : Nat) : Nat → Int64 := fun j => if 120 * i ≤ j ∧ j < 120 * i + n then C (120 * ia + (j - 120 * i)) else C j
theorem cpC_s {C : Nat → Int64} {i ia n : Nat} : up1 (cpC C i ia n) (120 * i + n) (C (120 * ia + n)) = cpC C i ia (n + 1) := by
  funext j
  rw [up1_ap]
  unfold cpC
  by_cases e : j = 120 * i + n
  · rw [if_pos e, if_pos (by omega), show j - 120 * i = n by omega]
  · rw [if_neg e]
    by_cases e2 : 120 * i ≤ j ∧ j < 120 * i + n
    · rw [if_pos e2, if_pos (by omega)]
    · rw [if_neg e2, if_neg (by omega)]
theorem cpC_at {C : Nat → Int64} {i ia n : Nat} (h : n < 120) : cpC C i ia n (120 * ia + n) = C (120 * ia + n) := by
  unfold cpC
  rw [if_neg (by omega)]
def rulF (k a : Int32) (z : Option Int32) : Nat → Option Int32
  | 0 => some (nI 2)
  | 2 => z
  | 3 => some k
  | 4 => some a
  | _ => none
def delF : Nat → Option Int32
  | 0 => some (nI 0)
  | _ => none
def rulO (σ : Sg) (i : Nat) (k a : Int32) : Value × Sg := if k = -1 then (.int (nI 0), sgX σ (wrS (gS σ) i delF) (gC σ)) else if k = nI 6 then (if wn σ a 1 = 0 then (.int (nI 1), sgX σ (wrS (gS σ) i (rulF k a (some (gS σ 2 a.toNatClampNeg)))) (cpC (gC σ) i a.toNatClampNeg (gS σ 2 a.toNatClampNeg).toNatClampNeg)) else noI σ (wn σ a 1)) else if 0 ≤ a ∧ a ≤ nI 99 then (.int (nI 1), sgX σ (wrS (gS σ) i (rulF k a none)) (gC σ)) else noI σ 6
def oRule (σ : Sg) (x k a : Int32) : Value × Sg := if inN x 8 ∧ -1 ≤ k ∧ k ≤ nI 6 then rulO σ x.toNatClampNeg k a else noI σ 1
theorem o_rule {G : GG} {h : Hp} {m : Nat} {σ : Sg} {x k a : Int32} (r : MRep m h σ) : Ct G mX5_rule 2 0 0 [.ref m, .int x, .int k, .int a] h (PO m (oRule σ x k a)) nX := by
  have hM := r.1
  have hM0 := hM
  refine Ct.mk ok_mX5_rule ?_
  unfold oRule
  have bad : ¬ (inN x 8 ∧ -1 ≤ k ∧ k ≤ nI 6) → WW G mX5_rule (rmO 2 0 0) h (PO m (if inN x 8 ∧ -1 ≤ k ∧ k ≤ nI 6 then rulO σ x.toNatClampNeg k a else noI σ 1)) nX 19 [.ref m, .int x, .int k, .int a, dV, dV, dV] [] h 0 0 := by
    intro c
    rw [if_neg c]
    refine blk kX5_rule_19 ?_
    refine callv_g hM.1 (no_PO (k := 1) r (by decide) rfl) (fun r1 h1 hO => ?_)
    obtain ⟨rfl, hr⟩ := hO
    exact ⟨trivial, rfl, hr⟩
  refine blk kX5_rule_0 ?_
  refine callv_r hM.1 (c_isShelf) ?_
  refine br_c (fun c1 => bad (fun q => bI_eq c1 q.1)) (fun c1 => ?_)
  have c1 := bI_ne c1
  obtain ⟨x1, x2⟩ := inN_ix c1 (by decide)
  refine blk kX5_rule_8 ?_
  refine br_c (fun c2 => bad (fun q => Int32.not_lt.mpr q.2.1 c2)) (fun c2 => ?_)
  have c2 : ¬ k < -1 := c2
  refine blk kX5_rule_13 ?_
  refine br_c (fun c3 => ?_) (fun c3 => bad (fun q => c3 q.2.2))
  have c3 : k ≤ nI 6 := c3
  rw [if_pos ⟨c1, Int32.not_lt.mp c2, c3⟩]
  generalize x.toNatClampNeg = i at *
  unfold rulO
  have hk : ¬ k = -1 → Rg 0 6 k := fun e => by
    have h1 := Int32.le_iff_toInt_le.mp (Int32.not_lt.mp c2)
    have h2 := Int32.le_iff_toInt_le.mp c3
    rw [nI_toInt (by decide)] at h2
    have h3 : (-1 : Int32).toInt = -1 := rfl
    have h4 : k.toInt ≠ -1 := fun q => e (Int32.toInt_inj.mp (by rw [q, h3]))
    exact ⟨by omega, h2⟩
  refine blk kX5_rule_25 ?_
  refine brn_c (fun c4 => ?_) (fun c4 => ?_)
  · have c4 : ¬ k = -1 := c4
    have hk := hk c4
    rw [if_neg c4]
    have fin : ∀ (z : Option Int32) (C : Nat → Int64) (v4 v5 v6 : Value) (h' : Hp) (P : Value × Sg), P = (.int (nI 1), sgX σ (wrS (gS σ) i (rulF k a z)) C) → FQ m [15, 16, 17, 18, 19] [20] [] h h' → (∀ b j, b < 5 → j < 8 → Ai h' (m + (15 + b)) j = if j = i ∧ b = 2 then z.getD (gS σ 2 i) else gS σ b j) → (∀ j, j < 960 → Al h' (m + 20) j = C j) → (k = nI 6 → Rg 0 120 (z.getD (gS σ 2 i))) → WW G mX5_rule (rmO 2 0 0) h (PO m P) nX 141 [.ref m, .int x, .int k, .int a, v4, v5, v6] [] h' 0 0 := by
      intro z C v4 v5 v6 h' P eP f hS hC h6
      rw [eP]
      have hM := f.MSh hM0
      refine blk kX5_rule_141 ?_
      refine ⟨_, _, hM.1, rfl, hM.held_.1, ?_⟩
      refine ⟨i, hM.held_.2.1, x1, Nat.lt_of_lt_of_eq (by omega) hM.held_.2.2.symm, ?_⟩
      refine ⟨_, _, hM.1, rfl, hM.kind_.1, ?_⟩
      refine ⟨i, hM.kind_.2.1, x1, Nat.lt_of_lt_of_eq (by omega) hM.kind_.2.2.symm, ?_⟩
      refine ⟨_, _, hM.1, rfl, hM.by_.1, ?_⟩
      refine ⟨i, hM.by_.2.1, x1, Nat.lt_of_lt_of_eq (by omega) hM.by_.2.2.symm, ?_⟩
      refine ⟨trivial, rfl, r.shelf (f.tr ((FQ.sAi (by decide)).tr ((FQ.sAi (by decide)).tr (FQ.sAi (by decide))))) (fun b j hb hj => ?_) hC (wrS_ok r.sok (Or.inr (Or.inr ⟨if_pos rfl, ?_, fun e => ?_⟩)))⟩
      · show up2 (up2 (up2 (Ai h') (m + 15) i (nI 2)) (m + 18) i k) (m + 19) i a (m + (15 + b)) j = if j = i then (rulF k a z b).getD (gS σ b j) else gS σ b j
        rw [up2_ap, up2_ap, up2_ap]
        by_cases e : j = i
        · rcases (by omega : b = 0 ∨ b = 1 ∨ b = 2 ∨ b = 3 ∨ b = 4) with q | q | q | q | q <;> subst q
          · rw [if_neg (by omega), if_neg (by omega), if_pos ⟨rfl, e⟩, if_pos e]; rfl
          · rw [if_neg (by omega), if_neg (by omega), if_neg (by omega), if_pos e, hS 1 j (by decide) hj, if_neg (by omega)]; rfl
          · rw [if_neg (by omega), if_neg (by omega), if_neg (by omega), if_pos e, hS 2 j (by decide) hj, if_pos ⟨e, rfl⟩, e]; rfl
          · rw [if_neg (by omega), if_pos ⟨rfl, e⟩, if_pos e]; rfl
          · rw [if_pos ⟨rfl, e⟩, if_pos e]; rfl
        · rw [if_neg (fun z => e z.2), if_neg (fun z => e z.2), if_neg (fun z => e z.2), if_neg e, hS b j hb hj, if_neg (fun z => e z.1)]
      · show Rg 0 6 (if i = i then _ else _)
        rw [if_pos rfl]; exact hk
      · have e : (if i = i then (rulF k a z 3).getD (gS σ 3 i) else gS σ 3 i) = nI 6 := e
        rw [if_pos rfl] at e
        show Rg 0 120 (if i = i then _ else _)
        rw [if_pos rfl]
        exact h6 e
    refine blk kX5_rule_39 ?_
    refine brn_c (fun c5 => ?_) (fun c5 => ?_)
    · have c5 : ¬ k = nI 6 := c5
      rw [if_neg c5]
      have bad2 : ¬ (0 ≤ a ∧ a ≤ nI 99) → WW G mX5_rule (rmO 2 0 0) h (PO m (if 0 ≤ a ∧ a ≤ nI 99 then (.int (nI 1), sgX σ (wrS (gS σ) i (rulF k a none)) (gC σ)) else noI σ 6)) nX 134 [.ref m, .int x, .int k, .int a, dV, dV, dV] [] h 0 0 := by
        intro c
        rw [if_neg c]
        refine blk kX5_rule_134 ?_
        refine callv_g hM.1 (no_PO (k := 6) r (by decide) rfl) (fun r1 h1 hO => ?_)
        obtain ⟨rfl, hr⟩ := hO
        exact ⟨trivial, rfl, hr⟩
      refine blk kX5_rule_124 ?_
      refine br_c (fun c6 => bad2 (fun q => Int32.not_lt.mpr q.1 c6)) (fun c6 => ?_)
      refine blk kX5_rule_128 ?_
      refine br_c (fun c7 => ?_) (fun c7 => bad2 (fun q => c7 q.2))
      refine fin none (gC σ) _ _ _ h _ (if_pos ⟨Int32.not_lt.mp c6, c7⟩) (FQ.rf h) (fun b j hb hj => ?_) (fun j hj => r.2.2.2.2.1 j hj) (fun e => absurd e c5)
      rw [r.sh_ hb hj]
      by_cases e : j = i ∧ b = 2
      · rw [if_pos e, e.1, e.2]; rfl
      · rw [if_neg e]
    · have c5 : k = nI 6 := c5
      rw [if_pos c5]
      refine blk kX5_rule_45 ?_
      refine callv_r hM.1 (c_wants r) ?_
      rw [show wnt σ a (nI 1) = -(nI (wn σ a 1)) from wnt_wn]
      refine br_c (fun c6 => ?_) (fun c6 => ?_)
      · have c6 := (wn_eq wn_lt).mp c6
        rw [if_pos c6]
        obtain ⟨d1, d2, d3⟩ := wn_ok c6 r.sok (Or.inl rfl)
        obtain ⟨a1, a2⟩ := inN_ix d1 (by decide)
        have hZ := (d3.row d2).2
        obtain ⟨Z1, Z2⟩ := hZ.ix (N := 121) (by decide)
        have e2 : Ai h (m + 17) a.toNatClampNeg = gS σ 2 a.toNatClampNeg := r.sh_ (a := 2) (by decide) a2
        generalize a.toNatClampNeg = ia at *
        refine blk kX5_rule_65 ?_
        refine ⟨_, _, hM.1, rfl, hM.size_.1, ?_⟩
        refine ⟨ia, _, hM.size_.2.1, Or.inl rfl, a1, Nat.lt_of_lt_of_eq (by omega) hM.size_.2.2.symm, ?_⟩
        rw [e2]
        obtain ⟨P, eP⟩ : ∃ P : Value × Sg, P = (.int (nI 1), sgX σ (wrS (gS σ) i (rulF k a (some (gS σ 2 ia)))) (cpC (gC σ) i ia (gS σ 2 ia).toNatClampNeg)) := ⟨_, rfl⟩
        rw [← eP]
        generalize eN : (gS σ 2 ia).toNatClampNeg = N at *
        generalize -(nI (wn σ a 1)) = v4
        have loop : ∀ (q c : Nat) (z : Int32) (h' : Hp), c + q = N → z = nI c → FQ m [15, 16, 17, 18, 19] [20] [] h h' → (∀ b j, b < 5 → j < 8 → Ai h' (m + (15 + b)) j = gS σ b j) → (∀ j, j < 960 → Al h' (m + 20) j = cpC (gC σ) i ia c j) → WW G mX5_rule (rmO 2 0 0) h (PO m P) nX 76 [.ref m, .int x, .int k, .int a, .int v4, .int (gS σ 2 ia), .int z] [] h' 0 0 := by
          intro q
          induction q with
          | zero =>
            intro c z h' hq hz f hS hC
            have hc : N = c := by omega
            subst hc
            have hM := f.MSh hM0
            refine blk kX5_rule_76 ?_
            refine br_t (by rw [hz, Z1]; exact Int32.le_refl _) ?_
            refine blk kX5_rule_113 ?_
            refine ⟨_, _, hM.1, rfl, hM.size_.1, ?_⟩
            refine ⟨i, hM.size_.2.1, x1, Nat.lt_of_lt_of_eq (by omega) hM.size_.2.2.symm, ?_⟩
            refine fin (some (gS σ 2 ia)) _ _ _ _ _ P eP (f.tr (FQ.sAi (by decide))) (fun b j hb hj => ?_) hC (fun _ => hZ)
            show up2 (Ai h') (m + 17) i (gS σ 2 ia) (m + (15 + b)) j = _
            rw [up2_ap]
            by_cases e : j = i ∧ b = 2
            · rw [if_pos ⟨by omega, e.1⟩, if_pos e]; rfl
            · rw [if_neg (by omega), if_neg e]; exact hS b j hb hj
          | succ q ih =>
            intro c z h' hq hz f hS hC
            have hc : c < N := by omega
            have hM := f.MSh hM0
            refine blk kX5_rule_76 ?_
            refine br_f (by rw [hz, Z1]; exact nI_ge hc (by omega)) ?_
            have e1 : nI 120 * x + z = nI (120 * i + c) := by rw [x1, hz, pk_mul, nI_add]
            have e3 : nI 120 * a + z = nI (120 * ia + c) := by rw [a1, hz, pk_mul, nI_add]
            refine blk kX5_rule_83 ?_
            refine ⟨_, _, hM.1, rfl, hM.cells_.1, ?_⟩
            refine ⟨_, _, hM.1, rfl, hM.cells_.1, ?_⟩
            refine ⟨120 * ia + c, hM.cells_.2.1, e3, Nat.lt_of_lt_of_eq (by omega) hM.cells_.2.2.symm, ?_⟩
            refine ⟨120 * i + c, hM.cells_.2.1, e1, Nat.lt_of_lt_of_eq (by omega) hM.cells_.2.2.symm, ?_⟩
            refine ih (c + 1) _ _ (by omega) (by rw [hz]; exact nI_add c 1) (f.tr (FQ.sAl (by decide))) hS (fun j hj => ?_)
            rw [← cpC_s, up1_ap]
            show up2 (Al h') (m + 20) (120 * i + c) (Al h' (m + 20) (120 * ia + c)) (m + 20) j = _
            rw [up2_ap, hC _ (by omega), cpC_at (by omega)]
            by_cases e : j = 120 * i + c
            · rw [if_pos ⟨rfl, e⟩, if_pos e]
            · rw [if_neg (fun q => e q.2), if_neg e]; exact hC j hj
        refine loop N 0 _ h (by omega) rfl (FQ.rf h) (fun b j hb hj => r.sh_ hb hj) (fun j hj => ?_)
        have : cpC (gC σ) i ia 0 = gC σ := by funext j; unfold cpC; rw [if_neg (by omega)]
        rw [this]; exact r.2.2.2.2.1 j hj
      · have c6 : ¬ wn σ a 1 = 0 := fun q => c6 ((wn_eq wn_lt).mpr q)
        rw [if_neg c6]
        refine blk kX5_rule_58 ?_
        refine callv_g hM.1 (no_PO (k := wn σ a 1) r wn_lt rfl) (fun r1 h1 hO => ?_)
        obtain ⟨rfl, hr⟩ := hO
        exact ⟨trivial, rfl, hr⟩
  · have c4 : k = -1 := c4
    rw [if_pos c4]
    refine blk kX5_rule_30 ?_
    refine ⟨_, _, hM.1, rfl, hM.held_.1, ?_⟩
    refine ⟨i, hM.held_.2.1, x1, Nat.lt_of_lt_of_eq (by omega) hM.held_.2.2.symm, ?_⟩
    refine ⟨trivial, rfl, r.shelf (FQ.sAi (by decide)) (fun b j hb hj => ?_) (fun j hj => r.2.2.2.2.1 j hj) (wrS_ok r.sok (Or.inl (if_pos rfl)))⟩
    show up2 (Ai h) (m + 15) i (nI 0) (m + (15 + b)) j = if j = i then (delF b).getD (gS σ b j) else gS σ b j
    rw [up2_ap]
    by_cases e : j = i
    · rcases (by omega : b = 0 ∨ b = 1 ∨ b = 2 ∨ b = 3 ∨ b = 4) with q | q | q | q | q <;> subst q
      · rw [if_pos ⟨rfl, e⟩, if_pos e]; rfl
      all_goals (rw [if_neg (by omega), if_pos e]; exact r.sh_ (by decide) hj)
    · rw [if_neg (fun z => e z.2), if_neg e]; exact r.sh_ hb hj
