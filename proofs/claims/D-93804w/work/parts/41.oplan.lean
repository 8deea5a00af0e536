set_option maxRecDepth 100000
theorem Fi_sFi {h : Hp} {f a : Nat} {v : Int32} : Fi (sFi h f a v) f a = v := if_pos ⟨rfl, rfl⟩
theorem Fi_sFi_ne {h : Hp} {f f' a a' : Nat} {v : Int32} (e : f' ≠ f) : Fi (sFi h f a v) f' a' = Fi h f' a' := if_neg (fun q => e q.1)
theorem Ai_sAi_v {h : Hp} {a i : Nat} {v : Int32} : Ai (sAi h a i v) a i = v := if_pos ⟨rfl, rfl⟩
theorem getD_mem {L : List Nat} {j : Nat} (hj : j < L.length) : L.getD j 0 ∈ L := by rw [List.getD_eq_getElem?_getD, List.getElem?_eq_getElem hj]; exact List.getElem_mem hj
theorem Ai_sAi_i {h : Hp} {a i j : Nat} {v : Int32} (e : j ≠ i) : Ai (sAi h a i v) a j = Ai h a j := if_neg (fun q => e q.2)
/-! what bars a shelf, as a number -/
def wn (σ : Sg) (x : Int32) (what : Nat) : Nat := if inN x 8 then (if gS σ 0 x.toNatClampNeg = nI 3 - nI what then 2 else if gS σ 0 x.toNatClampNeg = 0 then 3 else 0) else 1
theorem wn_lt {σ : Sg} {x : Int32} {what : Nat} : wn σ x what < 8 := by
  unfold wn
  repeat' split
  all_goals decide
theorem wnt_wn {σ : Sg} {x : Int32} {what : Nat} : wnt σ x (nI what) = -(nI (wn σ x what)) := by
  unfold wnt wn
  repeat' split
  all_goals rfl
theorem wn_eq {k : Nat} (hk : k < 8) : -(nI k) = 0 ↔ k = 0 := by
  have : ∀ k : Fin 8, -(nI k.1) = 0 ↔ k.1 = 0 := by decide
  exact this ⟨k, hk⟩
theorem wn_ok {σ : Sg} {x : Int32} {what : Nat} (h : wn σ x what = 0) (hS : ∀ i, i < 8 → SOK (gS σ) i) (hw : what = 1 ∨ what = 2) : inN x 8 ∧ gS σ 0 x.toNatClampNeg = nI what ∧ SOK (gS σ) x.toNatClampNeg := by
  unfold wn at h
  split at h
  · rename_i c
    obtain ⟨g1, g2⟩ := inN_ix c (by decide)
    split at h
    · cases h
    · rename_i c2
      split at h
      · cases h
      · rename_i c3
        refine ⟨c, ?_, hS _ g2⟩
        rcases hS _ g2 with e | ⟨e, -⟩ | ⟨e, -⟩
        · exact absurd e c3
        · rcases hw with rfl | rfl
          · exact e
          · exact absurd (by rw [e]; decide) c2
        · rcases hw with rfl | rfl
          · exact absurd (by rw [e]; decide) c2
          · exact e
  · cases h
theorem SOK.rule {S : Nat → Nat → Int32} {i : Nat} (h : SOK S i) (e : S 0 i = nI 2) : Rg 0 6 (S 3 i) ∧ (S 3 i = nI 6 → Rg 0 120 (S 2 i)) := by
  rcases h with h | h | h
  · rw [h] at e; exact absurd e (by decide)
  · rw [h.1] at e; exact absurd e (by decide)
  · exact h.2
theorem SOK.row {S : Nat → Nat → Int32} {i : Nat} (h : SOK S i) (e : S 0 i = nI 1) : Rg 0 3 (S 1 i) ∧ Rg 0 120 (S 2 i) := by
  rcases h with h | h | h
  · rw [h] at e; exact absurd e (by decide)
  · exact h.2
  · rw [h.1] at e; exact absurd e (by decide)
theorem MRep.sok {m : Nat} {h : Hp} {σ : Sg} (r : MRep m h σ) : ∀ i, i < 8 → SOK (gS σ) i := r.2.2.2.2.2.2.2.2.2
theorem OrdR.row {m : Nat} {h : Hp} {L : List Nat} {n : Nat} (o : OrdR m h L) : Fi h 73 m = nI L.length := o.1
theorem c_rowBy {G : GG} {h : Hp} {m i : Nat} {σ : Sg} {x : Int32} (r : MRep m h σ) (hi : i < 8) (hx : x = nI i) (h2 : gS σ 3 i = nI 6 → Rg 0 120 (gS σ 2 i)) : Ct G mX5_rowBy 6 0 0 [.ref m, .int x] h (fun r h2 => r = none ∧ MK m h h2 ∧ RowR m h2 (fun j => (ordL σ i).getD j 0) (ordL σ i).length (nHo (gT σ))) nX := by
  have hM := r.1
  obtain ⟨s, n, k, t⟩ := r.tw
  have hn := t.n10
  have en := t.1.nHo_
  have lo := ordL_ok (σ := σ) (i := i) (by rw [en]; exact hn)
  have hlen := lo.len
  refine Ct.mk ok_mX5_rowBy ?_
  refine blk kX5_rowBy_0 ?_
  refine callv_g hM.1 (c_orders r hi hx h2) (fun r1 h1 hO => ?_)
  obtain ⟨rfl, k1, o⟩ := hO
  have hM0 := hM
  have hM := k1.MSh hM
  refine ⟨_, hM.1, rfl, ?_⟩
  refine ⟨_, hM.1, rfl, ?_⟩
  obtain ⟨L, eL⟩ : ∃ L, L = ordL σ i := ⟨_, rfl⟩
  rw [← eL] at o lo hlen ⊢
  have hmem : ∀ j, j < L.length → L.getD j 0 ∈ L := fun j hj => by rw [List.getD_eq_getElem?_getD, List.getElem?_eq_getElem hj]; exact List.getElem_mem hj
  have loop : ∀ (q c : Nat) (z : Int32) (h' : Hp), c + q = L.length → z = nI c → MK m h h' → OrdR m h' L → Fi h' 75 m = nI L.length → (∀ j, j < c → Ai h' (m + 29) j = nI (L.getD j 0)) → WW G mX5_rowBy (rmO 6 0 0) h (fun r h2 => r = none ∧ MK m h h2 ∧ RowR m h2 (fun j => L.getD j 0) L.length (nHo (gT σ))) nX 15 [.ref m, .int x, .int z] [] h' 0 0 := by
    intro q
    induction q with
    | zero =>
      intro c z h' hq hz hk o h75 hr
      have hc : L.length = c := by omega
      subst hc
      have hM := hk.MSh hM0
      refine blk kX5_rowBy_15 ?_
      refine ⟨_, hM.1, rfl, ?_⟩
      refine br_t (by rw [hz, o.1]; exact Int32.le_refl _) ?_
      refine blk kX5_rowBy_41 ?_
      exact ⟨trivial, rfl, hk, by omega, h75, fun j hj => ⟨lo.2 _ (hmem j hj), hr j hj⟩⟩
    | succ q ih =>
      intro c z h' hq hz hk o h75 hr
      have hc : c < L.length := by omega
      have hM := hk.MSh hM0
      refine blk kX5_rowBy_15 ?_
      refine ⟨_, hM.1, rfl, ?_⟩
      refine br_f (by rw [hz, o.1]; exact nI_ge hc (by omega)) ?_
      refine blk kX5_rowBy_23 ?_
      refine ⟨_, _, hM.1, rfl, hM.row_.1, ?_⟩
      refine ⟨_, _, hM.1, rfl, hM.order_.1, ?_⟩
      refine ⟨c, _, hM.order_.2.1, Or.inl rfl, hz, Nat.lt_of_lt_of_eq (by omega) hM.order_.2.2.symm, ?_⟩
      refine ⟨c, hM.row_.2.1, hz, Nat.lt_of_lt_of_eq (by omega) hM.row_.2.2.symm, ?_⟩
      refine ih (c + 1) _ _ (by omega) (by rw [hz]; exact nI_add c 1) (hk.tr (MK.sAi rfl)) (o.mk_ rfl (Ai_sAi_ne (by omega))) h75 (fun j hj => ?_)
      show up2 (Ai h') (m + 29) c (Ai h' (m + 28) c) (m + 29) j = _
      rw [up2_ap]
      by_cases e : j = c
      · rw [if_pos ⟨rfl, e⟩, e]; exact o.2 c hc
      · rw [if_neg (fun q => e q.2)]; exact hr j (by omega)
  refine loop L.length 0 _ _ (by omega) rfl (k1.tr (MK.sFi rfl)) (o.mk_ (Fi_sFi_ne (by decide)) rfl) ?_ (fun j hj => absurd hj (Nat.not_lt_zero _))
  show up2 (Fi h1) 75 m (Fi h1 73 m) 75 m = _
  rw [up2_ap, if_pos ⟨rfl, rfl⟩, o.1]
def oOrder (σ : Sg) (x y : Int32) : Value × Sg := if wn σ x 2 = 0 then (if 0 ≤ y ∧ y < nI (ordL σ x.toNatClampNeg).length then (.int (nI ((ordL σ x.toNatClampNeg).getD y.toNatClampNeg 0)), σ) else noI σ 5) else noI σ (wn σ x 2)
theorem o_order {G : GG} {h : Hp} {m : Nat} {σ : Sg} {x y : Int32} (r : MRep m h σ) : Ct G mX5_order 6 0 0 [.ref m, .int x, .int y] h (PO m (oOrder σ x y)) nX := by
  have hM := r.1
  refine Ct.mk ok_mX5_order ?_
  refine blk kX5_order_0 ?_
  refine callv_r hM.1 (c_wants r) ?_
  rw [wnt_wn]
  unfold oOrder
  refine br_c (fun c1 => ?_) (fun c1 => ?_)
  · have c1 := (wn_eq wn_lt).mp c1
    rw [if_pos c1]
    obtain ⟨d1, d2, d3⟩ := wn_ok c1 r.sok (Or.inr rfl)
    obtain ⟨x1, x2⟩ := inN_ix d1 (by decide)
    obtain ⟨s, n, k, t⟩ := r.tw
    have hn := t.n10
    have lo := ordL_ok (σ := σ) (i := x.toNatClampNeg) (by rw [t.1.nHo_]; exact hn)
    rw [t.1.nHo_] at lo
    have hlen := lo.len
    refine blk kX5_order_17 ?_
    refine callv_g hM.1 (c_orders r x2 x1 (d3.rule d2).2) (fun r1 h1 hO => ?_)
    obtain ⟨rfl, k1, o⟩ := hO
    have hM := k1.MSh hM
    have bad : ¬ (0 ≤ y ∧ y < nI (ordL σ x.toNatClampNeg).length) → WW G mX5_order (rmO 6 0 0) h (PO m (if 0 ≤ y ∧ y < nI (ordL σ x.toNatClampNeg).length then (.int (nI ((ordL σ x.toNatClampNeg).getD y.toNatClampNeg 0)), σ) else noI σ 5)) nX 43 [.ref m, .int x, .int y, .int (-(nI (wn σ x 2)))] [] h1 0 0 := by
      intro c
      rw [if_neg c]
      refine blk kX5_order_43 ?_
      refine callv_g hM.1 (no_PO (k := 5) (r.mk k1) (by decide) rfl) (fun r1 h1 hO => ?_)
      obtain ⟨rfl, hr⟩ := hO
      refine blk kX5_order_49 ?_
      exact ⟨trivial, rfl, hr⟩
    refine br_c (fun c2 => ?_) (fun c2 => ?_)
    · exact bad (fun q => Int32.not_lt.mpr q.1 c2)
    · have c2 := Int32.not_lt.mp c2
      refine blk kX5_order_26 ?_
      refine ⟨_, hM.1, rfl, ?_⟩
      refine br_c (fun c3 => ?_) (fun c3 => ?_)
      · have c3 : Fi h1 73 m ≤ y := c3
        rw [o.1] at c3
        exact bad (fun q => Int32.not_lt.mpr c3 q.2)
      · have c3 : ¬ Fi h1 73 m ≤ y := c3
        rw [o.1] at c3
        have c4 : inN y (ordL σ x.toNatClampNeg).length := ⟨c2, Int32.not_le.mp c3⟩
        obtain ⟨y1, y2⟩ := inN_ix c4 (by omega)
        rw [if_pos c4]
        refine blk kX5_order_34 ?_
        refine ⟨_, _, hM.1, rfl, hM.order_.1, ?_⟩
        refine ⟨_, _, hM.order_.2.1, Or.inl rfl, y1, Nat.lt_of_lt_of_eq (by omega) hM.order_.2.2.symm, ?_⟩
        refine blk kX5_order_49 ?_
        exact ⟨trivial, by rw [o.2 _ y2], r.mk k1⟩
  · have c1 : ¬ wn σ x 2 = 0 := fun q => c1 ((wn_eq wn_lt).mpr q)
    rw [if_neg c1]
    refine blk kX5_order_11 ?_
    refine callv_g hM.1 (no_PO (k := wn σ x 2) r wn_lt rfl) (fun r1 h1 hO => ?_)
    obtain ⟨rfl, hr⟩ := hO
    exact ⟨trivial, rfl, hr⟩
theorem yrs_ix {y : Int32} (h : yrs y) : y = nI y.toNatClampNeg ∧ y.toNatClampNeg ≤ 20 ∧ 1 ≤ y.toNatClampNeg := by
  obtain ⟨h1, h2⟩ := h
  rw [Int32.le_iff_toInt_le, nI_toInt (by decide)] at h1 h2
  obtain ⟨a, b⟩ := Rg.ix (x := y) (N := 21) (hi := 20) ⟨by omega, h2⟩ (by decide)
  refine ⟨a, by omega, ?_⟩
  rw [a, nI_toInt (by omega)] at h1
  omega
def lstR (L : List Nat) : Nat → Nat := fun j => L.getD j 0
def lossL (T : Tw) (L : List Nat) (N : Nat) : Int64 := (plS (fun j => L.getD j 0) L.length T N).2
def madeL (T : Tw) (L : List Nat) (N : Nat) : Int32 := (plS (fun j => L.getD j 0) L.length T N).1.2.2
def oPlan (σ : Sg) (x y : Int32) : Value × Sg := if wn σ x 2 = 0 then (if yrs y then (.long (lossL (gT σ) (ordL σ x.toNatClampNeg) y.toNatClampNeg), σ) else noL σ 6) else noL σ (wn σ x 2)
def oSteps (σ : Sg) (x y : Int32) : Value × Sg := if wn σ x 2 = 0 then (if yrs y then (.int (madeL (gT σ) (ordL σ x.toNatClampNeg) y.toNatClampNeg), σ) else noI σ 6) else noI σ (wn σ x 2)
theorem o_plan {G : GG} {h : Hp} {m : Nat} {σ : Sg} {x y : Int32} (r : MRep m h σ) : Ct G mX5_plan 7 0 0 [.ref m, .int x, .int y] h (PO m (oPlan σ x y)) nX := by
  have hM := r.1
  refine Ct.mk ok_mX5_plan ?_
  refine blk kX5_plan_0 ?_
  refine callv_r hM.1 (c_wants r) ?_
  rw [wnt_wn]
  unfold oPlan
  refine br_c (fun c1 => ?_) (fun c1 => ?_)
  · have c1 := (wn_eq wn_lt).mp c1
    rw [if_pos c1]
    obtain ⟨d1, d2, d3⟩ := wn_ok c1 r.sok (Or.inr rfl)
    obtain ⟨x1, x2⟩ := inN_ix d1 (by decide)
    refine blk kX5_plan_18 ?_
    refine callv_r hM.1 (c_isYears) ?_
    refine brn_c (fun c2 => ?_) (fun c2 => ?_)
    · have c2 := bI_ne c2
      rw [if_pos c2]
      obtain ⟨y1, y2, -⟩ := yrs_ix c2
      refine blk kX5_plan_34 ?_
      refine callv_g hM.1 (c_rowBy r x2 x1 (d3.rule d2).2) (fun r1 h1 hO => ?_)
      obtain ⟨rfl, k1, hR⟩ := hO
      have hM := k1.MSh hM
      obtain ⟨s, n, k, t⟩ := (r.mk k1).tw
      rw [t.1.nHo_] at hR
      refine callv_g hM.1 (c_planned hM t hR y1 y2) (fun r1 h1 hO => ?_)
      obtain ⟨rfl, f, -⟩ := hO
      exact ⟨trivial, rfl, (r.mk k1).mk (f.mk rfl rfl rfl)⟩
    · have c2 := bI_eq c2
      rw [if_neg c2]
      refine blk kX5_plan_26 ?_
      refine callv_g hM.1 (no_PO (k := 6) r (by decide) rfl) (fun r1 h1 hO => ?_)
      obtain ⟨rfl, hr⟩ := hO
      exact ⟨trivial, rfl, hr⟩
  · have c1 : ¬ wn σ x 2 = 0 := fun q => c1 ((wn_eq wn_lt).mpr q)
    rw [if_neg c1]
    refine blk kX5_plan_11 ?_
    refine callv_g hM.1 (no_PO (k := wn σ x 2) r wn_lt rfl) (fun r1 h1 hO => ?_)
    obtain ⟨rfl, hr⟩ := hO
    exact ⟨trivial, rfl, hr⟩
theorem o_steps {G : GG} {h : Hp} {m : Nat} {σ : Sg} {x y : Int32} (r : MRep m h σ) : Ct G mX5_steps 7 0 0 [.ref m, .int x, .int y] h (PO m (oSteps σ x y)) nX := by
  have hM := r.1
  refine Ct.mk ok_mX5_steps ?_
  refine blk kX5_steps_0 ?_
  refine callv_r hM.1 (c_wants r) ?_
  rw [wnt_wn]
  unfold oSteps
  refine br_c (fun c1 => ?_) (fun c1 => ?_)
  · have c1 := (wn_eq wn_lt).mp c1
    rw [if_pos c1]
    obtain ⟨d1, d2, d3⟩ := wn_ok c1 r.sok (Or.inr rfl)
    obtain ⟨x1, x2⟩ := inN_ix d1 (by decide)
    refine blk kX5_steps_17 ?_
    refine callv_r hM.1 (c_isYears) ?_
    refine brn_c (fun c2 => ?_) (fun c2 => ?_)
    · have c2 := bI_ne c2
      rw [if_pos c2]
      obtain ⟨y1, y2, -⟩ := yrs_ix c2
      refine blk kX5_steps_32 ?_
      refine callv_g hM.1 (c_rowBy r x2 x1 (d3.rule d2).2) (fun r1 h1 hO => ?_)
      obtain ⟨rfl, k1, hR⟩ := hO
      have hM := k1.MSh hM
      obtain ⟨s, n, k, t⟩ := (r.mk k1).tw
      rw [t.1.nHo_] at hR
      refine callv_g hM.1 (c_planned hM t hR y1 y2) (fun r1 h1 hO => ?_)
      obtain ⟨rfl, f, h77⟩ := hO
      have hM := f.MSh hM
      refine ⟨_, hM.1, rfl, ?_⟩
      exact ⟨trivial, by rw [h77]; rfl, (r.mk k1).mk (f.mk rfl rfl rfl)⟩
    · have c2 := bI_eq c2
      rw [if_neg c2]
      refine blk kX5_steps_25 ?_
      refine callv_g hM.1 (no_PO (k := 6) r (by decide) rfl) (fun r1 h1 hO => ?_)
      obtain ⟨rfl, hr⟩ := hO
      exact ⟨trivial, rfl, hr⟩
  · have c1 : ¬ wn σ x 2 = 0 := fun q => c1 ((wn_eq wn_lt).mpr q)
    rw [if_neg c1]
    refine blk kX5_steps_11 ?_
    refine callv_g hM.1 (no_PO (k := wn σ x 2) r wn_lt rfl) (fun r1 h1 hO => ?_)
    obtain ⟨rfl, hr⟩ := hO
    exact ⟨trivial, rfl, hr⟩
