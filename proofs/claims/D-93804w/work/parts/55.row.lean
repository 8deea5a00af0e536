set_option maxRecDepth 100000
def sgX (σ : Sg) (S : Nat → Nat → Int32) (C : Nat → Int64) : Sg := (σ.1, σ.2.1, S, C, σ.2.2.2.2)
theorem MRep.shelf {m : Nat} {h h' : Hp} {σ : Sg} {S : Nat → Nat → Int32} {C : Nat → Int64} (r : MRep m h σ) (f : FQ m [15, 16, 17, 18, 19] [20] [] h h') (hS : ∀ a i, a < 5 → i < 8 → Ai h' (m + (15 + a)) i = S a i) (hC : ∀ i, i < 960 → Al h' (m + 20) i = C i) (ok : ∀ i, i < 8 → SOK S i) : MRep m h' (sgX σ S C) := by
  obtain ⟨r1, ⟨s, n, k, r2⟩, r3, r4, r5, r6, r7, r8, r9, r10⟩ := r
  refine ⟨f.MSh r1, ⟨s, n, k, f.MTw r2 rfl rfl⟩, fun i hi => ?_, hS, hC, ⟨?_, ?_, ?_⟩, fun i hi => ?_, ?_, fun i hi => ?_, ok⟩
  · rw [f.2.2.1 1 (by decide)]; exact r3 i hi
  · rw [f.2.1 39 (by decide)]; exact r6.1
  · rw [f.2.1 83 (by decide)]; exact r6.2.1
  · rw [f.2.1 84 (by decide)]; exact r6.2.2
  · rw [f.2.2.1 32 (by decide)]; exact r7 i hi
  · rw [f.2.2.1 24 (by decide)]; exact r8
  · rw [f.2.2.1 22 (by decide)]; exact r9 i hi
theorem FQ.sAl {m o i : Nat} {A L F : List Nat} {h : Hp} {v : Int64} (ho : o ∈ L) : FQ m A L F h (sAl h (m + o) i v) := by rw [sAl_r]; exact FQ.rAl ho
/-- a shelf's numbers written -/
def wrS (S : Nat → Nat → Int32) (i : Nat) (F : Nat → Option Int32) : Nat → Nat → Int32 := fun a j => if j = i then (F a).getD (S a j) else S a j
theorem SOK.same {S S' : Nat → Nat → Int32} {i : Nat} (h : SOK S i) (e : ∀ a, S' a i = S a i) : SOK S' i := by
  unfold SOK at *
  rw [e 0, e 1, e 2, e 3]; exact h
theorem wrS_ok {S : Nat → Nat → Int32} {i : Nat} {F : Nat → Option Int32} (hS : ∀ j, j < 8 → SOK S j) (h : SOK (wrS S i F) i) : ∀ j, j < 8 → SOK (wrS S i F) j := fun j hj => by
  by_cases e : j = i
  · rw [e]; exact h
  · exact (hS j hj).same (fun a => if_neg e)
def rowF (o n : Int32) : Nat → Option Int32
  | 0 => some (nI 1)
  | 1 => some o
  | 2 => some n
  | _ => none
def clrC (C : Nat → Int64) (i n : Nat) : Nat → Int64 := fun j => if 120 * i ≤ j ∧ j < 120 * i + n then lN 0 else C j
theorem clrC_s {C : Nat → Int64} {i n : Nat} : up1 (clrC C i n) (120 * i + n) (lN 0) = clrC C i (n + 1) := by
  funext j
  rw [up1_ap]
  unfold clrC
  by_cases e : j = 120 * i + n
  · rw [if_pos e, if_pos (by omega)]
  · rw [if_neg e]
    by_cases e2 : 120 * i ≤ j ∧ j < 120 * i + n
    · rw [if_pos e2, if_pos (by omega)]
    · rw [if_neg e2, if_neg (by omega)]
def oRow (σ : Sg) (x o n : Int32) : Value × Sg := if inN x 8 then (if n < 0 then noI σ 4 else if 0 ≤ o ∧ o ≤ nI 3 then (if n ≤ nI 120 then (.int (nI 1), sgX σ (wrS (gS σ) x.toNatClampNeg (rowF o n)) (clrC (gC σ) x.toNatClampNeg 120)) else noI σ 7) else noI σ 6) else noI σ 1
theorem o_row {G : GG} {h : Hp} {m : Nat} {σ : Sg} {x o n : Int32} (r : MRep m h σ) : Ct G mX5_row 1 0 0 [.ref m, .int x, .int o, .int n] h (PO m (oRow σ x o n)) nX := by
  have hM := r.1
  have hM0 := hM
  refine Ct.mk ok_mX5_row ?_
  unfold oRow
  refine blk kX5_row_0 ?_
  refine callv_r hM.1 (c_isShelf) ?_
  refine brn_c (fun c1 => ?_) (fun c1 => ?_)
  · have c1 := bI_ne c1
    obtain ⟨x1, x2⟩ := inN_ix c1 (by decide)
    rw [if_pos c1]
    generalize x.toNatClampNeg = i at *
    refine blk kX5_row_14 ?_
    refine br_c (fun c2 => ?_) (fun c2 => ?_)
    · have c2 : ¬ n < 0 := Int32.not_lt.mpr c2
      rw [if_neg c2]
      have bad : ¬ (0 ≤ o ∧ o ≤ nI 3) → WW G mX5_row (rmO 1 0 0) h (PO m (if 0 ≤ o ∧ o ≤ nI 3 then (if n ≤ nI 120 then (.int (nI 1), sgX σ (wrS (gS σ) i (rowF o n)) (clrC (gC σ) i 120)) else noI σ 7) else noI σ 6)) nX 34 [.ref m, .int x, .int o, .int n, dV] [] h 0 0 := by
        intro c
        rw [if_neg c]
        refine blk kX5_row_34 ?_
        refine callv_g hM.1 (no_PO (k := 6) r (by decide) rfl) (fun r1 h1 hO => ?_)
        obtain ⟨rfl, hr⟩ := hO
        exact ⟨trivial, rfl, hr⟩
      refine blk kX5_row_25 ?_
      refine br_c (fun c3 => bad (fun q => Int32.not_lt.mpr q.1 c3)) (fun c3 => ?_)
      refine blk kX5_row_29 ?_
      refine br_c (fun c4 => ?_) (fun c4 => bad (fun q => c4 q.2))
      have co : 0 ≤ o ∧ o ≤ nI 3 := ⟨Int32.not_lt.mp c3, c4⟩
      rw [if_pos co]
      refine blk kX5_row_41 ?_
      refine br_c (fun c5 => ?_) (fun c5 => ?_)
      · have c5 : n ≤ nI 120 := c5
        rw [if_pos c5]
        have loop : ∀ (q c : Nat) (z : Int32) (h' : Hp), c + q = 120 → z = nI c → FQ m [15, 16, 17, 18, 19] [20] [] h h' → (∀ a j, a < 5 → j < 8 → Ai h' (m + (15 + a)) j = wrS (gS σ) i (rowF o n) a j) → (∀ j, j < 960 → Al h' (m + 20) j = clrC (gC σ) i c j) → WW G mX5_row (rmO 1 0 0) h (PO m (.int (nI 1), sgX σ (wrS (gS σ) i (rowF o n)) (clrC (gC σ) i 120))) nX 78 [.ref m, .int x, .int o, .int n, .int z] [] h' 0 0 := by
          intro q
          induction q with
          | zero =>
            intro c z h' hq hz f hS hC
            have hc : c = 120 := by omega
            subst hc
            refine blk kX5_row_78 ?_
            refine br_t (by rw [hz]; decide) ?_
            refine blk kX5_row_104 ?_
            refine ⟨trivial, rfl, r.shelf f hS hC (wrS_ok r.sok (Or.inr (Or.inl ⟨?_, ?_, ?_⟩)))⟩
            · exact if_pos rfl
            · show Rg 0 3 (if i = i then _ else _)
              rw [if_pos rfl]; exact rg_of co.1 co.2 (by decide)
            · show Rg 0 120 (if i = i then _ else _)
              rw [if_pos rfl]; exact rg_of (Int32.not_lt.mp c2) c5 (by decide)
          | succ q ih =>
            intro c z h' hq hz f hS hC
            have hc : c < 120 := by omega
            have hM := f.MSh hM0
            refine blk kX5_row_78 ?_
            refine br_f (by rw [hz]; exact nI_ge hc (by decide)) ?_
            have e : nI 120 * x + z = nI (120 * i + c) := by rw [x1, hz, pk_mul, nI_add]
            refine blk kX5_row_85 ?_
            refine ⟨_, _, hM.1, rfl, hM.cells_.1, ?_⟩
            refine ⟨120 * i + c, hM.cells_.2.1, e, Nat.lt_of_lt_of_eq (by omega) hM.cells_.2.2.symm, ?_⟩
            refine ih (c + 1) _ _ (by omega) (by rw [hz]; exact nI_add c 1) (f.tr (FQ.sAl (by decide))) hS (fun j hj => ?_)
            rw [← clrC_s, up1_ap]
            show up2 (Al h') (m + 20) (120 * i + c) (lN 0) (m + 20) j = _
            rw [up2_ap]
            by_cases e : j = 120 * i + c
            · rw [if_pos ⟨rfl, e⟩, if_pos e]
            · rw [if_neg (fun q => e q.2), if_neg e]; exact hC j hj
        refine blk kX5_row_54 ?_
        refine ⟨_, _, hM.1, rfl, hM.held_.1, ?_⟩
        refine ⟨i, hM.held_.2.1, x1, Nat.lt_of_lt_of_eq (by omega) hM.held_.2.2.symm, ?_⟩
        refine ⟨_, _, hM.1, rfl, hM.sort_.1, ?_⟩
        refine ⟨i, hM.sort_.2.1, x1, Nat.lt_of_lt_of_eq (by omega) hM.sort_.2.2.symm, ?_⟩
        refine ⟨_, _, hM.1, rfl, hM.size_.1, ?_⟩
        refine ⟨i, hM.size_.2.1, x1, Nat.lt_of_lt_of_eq (by omega) hM.size_.2.2.symm, ?_⟩
        refine loop 120 0 _ _ (by omega) rfl ((FQ.sAi (by decide)).tr ((FQ.sAi (by decide)).tr (FQ.sAi (by decide)))) (fun a j ha hj => ?_) (fun j hj => ?_)
        · show up2 (up2 (up2 (Ai h) (m + 15) i (nI 1)) (m + 16) i o) (m + 17) i n (m + (15 + a)) j = if j = i then (rowF o n a).getD (gS σ a j) else gS σ a j
          rw [up2_ap, up2_ap, up2_ap]
          by_cases e : j = i
          · rcases (by omega : a = 0 ∨ a = 1 ∨ a = 2 ∨ a = 3 ∨ a = 4) with q | q | q | q | q <;> subst q
            · rw [if_neg (by omega), if_neg (by omega), if_pos ⟨rfl, e⟩, if_pos e]; rfl
            · rw [if_neg (by omega), if_pos ⟨rfl, e⟩, if_pos e]; rfl
            · rw [if_pos ⟨rfl, e⟩, if_pos e]; rfl
            · rw [if_neg (by omega), if_neg (by omega), if_neg (by omega), if_pos e]; exact r.sh_ (by decide) hj
            · rw [if_neg (by omega), if_neg (by omega), if_neg (by omega), if_pos e]; exact r.sh_ (by decide) hj
          · rw [if_neg (fun z => e z.2), if_neg (fun z => e z.2), if_neg (fun z => e z.2), if_neg e]; exact r.sh_ ha hj
        · have : clrC (gC σ) i 0 = gC σ := by funext j; unfold clrC; rw [if_neg (by omega)]
          rw [this]; exact r.2.2.2.2.1 j hj
      · have c5 : ¬ n ≤ nI 120 := c5
        rw [if_neg c5]
        refine blk kX5_row_47 ?_
        refine callv_g hM.1 (no_PO (k := 7) r (by decide) rfl) (fun r1 h1 hO => ?_)
        obtain ⟨rfl, hr⟩ := hO
        exact ⟨trivial, rfl, hr⟩
    · have c2 : n < 0 := Int32.not_le.mp c2
      rw [if_pos c2]
      refine blk kX5_row_18 ?_
      refine callv_g hM.1 (no_PO (k := 4) r (by decide) rfl) (fun r1 h1 hO => ?_)
      obtain ⟨rfl, hr⟩ := hO
      exact ⟨trivial, rfl, hr⟩
  · have c1 := bI_eq c1
    rw [if_neg c1]
    refine blk kX5_row_8 ?_
    refine callv_g hM.1 (no_PO (k := 1) r (by decide) rfl) (fun r1 h1 hO => ?_)
    obtain ⟨rfl, hr⟩ := hO
    exact ⟨trivial, rfl, hr⟩
