set_option maxRecDepth 100000
def cheapS (T : Tw) (a : Int32) : Nat → Nat
  | 0 => 0
  | i + 1 => if a < T.2 8 i then cheapS T a i else cheapS T a i + 1
theorem cheapS_le {T : Tw} {a : Int32} : ∀ i, cheapS T a i ≤ i
  | 0 => Nat.le_refl _
  | i + 1 => by
    have := cheapS_le (T := T) (a := a) i
    unfold cheapS
    split <;> omega
/-- whether a rule of a kind may be taken for one of another -/
abbrev asK (k is : Int32) : Prop := k = 0 ∨ k = is ∨ (k = nI 1 ∧ is = nI 3) ∨ (k = nI 2 ∧ is = nI 5)
def sayV (σ : Sg) (i : Nat) (k : Int32) : Int32 := if k = 0 then gS σ 4 i else if k = nI 6 then gS σ 2 i else if k = nI 4 then nI (cheapS (gT σ) (gS σ 4 i) (nHo (gT σ))) else if (ordL σ i).length = 0 then -1 else if k = nI 1 ∨ k = nI 3 then nI ((ordL σ i).getD 0 0) else nI ((ordL σ i).getD ((ordL σ i).length - 1) 0)
def oSays (σ : Sg) (x k : Int32) : Value × Sg := if inN x 8 ∧ 0 ≤ k ∧ k ≤ nI 6 then (if gS σ 0 x.toNatClampNeg = nI 1 then noI σ 2 else if gS σ 0 x.toNatClampNeg = 0 then noI σ 3 else if asK k (gS σ 3 x.toNatClampNeg) then (.int (sayV σ x.toNatClampNeg k), σ) else noI σ 2) else noI σ 1
theorem o_says {G : GG} {h : Hp} {m : Nat} {σ : Sg} {x k : Int32} (r : MRep m h σ) : Ct G mX5_says 6 0 0 [.ref m, .int x, .int k] h (PO m (oSays σ x k)) nX := by
  have hM := r.1
  have hM0 := hM
  obtain ⟨s, n, kk, t⟩ := r.tw
  have hn := t.n10
  have en := t.1.nHo_
  refine Ct.mk ok_mX5_says ?_
  unfold oSays
  have bad : ¬ (inN x 8 ∧ 0 ≤ k ∧ k ≤ nI 6) → WW G mX5_says (rmO 6 0 0) h (PO m (if inN x 8 ∧ 0 ≤ k ∧ k ≤ nI 6 then (if gS σ 0 x.toNatClampNeg = nI 1 then noI σ 2 else if gS σ 0 x.toNatClampNeg = 0 then noI σ 3 else if asK k (gS σ 3 x.toNatClampNeg) then (.int (sayV σ x.toNatClampNeg k), σ) else noI σ 2) else noI σ 1)) nX 18 [.ref m, .int x, .int k, dV, dV, dV] [] h 0 0 := by
    intro c
    rw [if_neg c]
    refine blk kX5_says_18 ?_
    refine callv_g hM.1 (no_PO (k := 1) r (by decide) rfl) (fun r1 h1 hO => ?_)
    obtain ⟨rfl, hr⟩ := hO
    exact ⟨trivial, rfl, hr⟩
  refine blk kX5_says_0 ?_
  refine callv_r hM.1 (c_isShelf) ?_
  refine br_c (fun c1 => bad (fun q => bI_eq c1 q.1)) (fun c1 => ?_)
  have c1 := bI_ne c1
  obtain ⟨x1, x2⟩ := inN_ix c1 (by decide)
  have e0 : Ai h (m + 15) x.toNatClampNeg = gS σ 0 x.toNatClampNeg := r.sh_ (a := 0) (by decide) x2
  have e2 : Ai h (m + 17) x.toNatClampNeg = gS σ 2 x.toNatClampNeg := r.sh_ (a := 2) (by decide) x2
  have e3 : Ai h (m + 18) x.toNatClampNeg = gS σ 3 x.toNatClampNeg := r.sh_ (a := 3) (by decide) x2
  have e4 : Ai h (m + 19) x.toNatClampNeg = gS σ 4 x.toNatClampNeg := r.sh_ (a := 4) (by decide) x2
  refine blk kX5_says_8 ?_
  refine br_c (fun c2 => bad (fun q => Int32.not_lt.mpr q.2.1 c2)) (fun c2 => ?_)
  refine blk kX5_says_12 ?_
  refine br_c (fun c3 => ?_) (fun c3 => bad (fun q => c3 q.2.2))
  rw [if_pos ⟨c1, Int32.not_lt.mp c2, c3⟩]
  generalize x.toNatClampNeg = i at *
  refine blk kX5_says_24 ?_
  refine ⟨_, _, hM.1, rfl, hM.held_.1, ?_⟩
  refine ⟨i, _, hM.held_.2.1, Or.inl rfl, x1, Nat.lt_of_lt_of_eq (by omega) hM.held_.2.2.symm, ?_⟩
  refine brn_c (fun c4 => ?_) (fun c4 => ?_)
  · have c4 : ¬ Ai h (m + 15) i = nI 1 := c4
    rw [e0] at c4
    rw [if_neg c4]
    refine blk kX5_says_41 ?_
    refine ⟨_, _, hM.1, rfl, hM.held_.1, ?_⟩
    refine ⟨i, _, hM.held_.2.1, Or.inl rfl, x1, Nat.lt_of_lt_of_eq (by omega) hM.held_.2.2.symm, ?_⟩
    refine brn_c (fun c5 => ?_) (fun c5 => ?_)
    · have c5 : ¬ Ai h (m + 15) i = 0 := c5
      rw [e0] at c5
      rw [if_neg c5]
      have hel : gS σ 0 i = nI 2 := by
        rcases r.sok i x2 with q | q | q
        · exact absurd q c5
        · exact absurd q.1 c4
        · exact q.1
      obtain ⟨d1, d2⟩ := (r.sok i x2).rule hel
      refine blk kX5_says_57 ?_
      refine ⟨_, _, hM.1, rfl, hM.kind_.1, ?_⟩
      refine ⟨i, _, hM.kind_.2.1, Or.inl rfl, x1, Nat.lt_of_lt_of_eq (by omega) hM.kind_.2.2.symm, ?_⟩
      rw [e3]
      obtain ⟨is, eis⟩ : ∃ v, v = gS σ 3 i := ⟨_, rfl⟩
      rw [← eis]
      have j93 : ¬ asK k is → WW G mX5_says (rmO 6 0 0) h (PO m (if asK k is then (.int (sayV σ i k), σ) else noI σ 2)) nX 93 [.ref m, .int x, .int k, .int is, dV, dV] [] h 0 0 := by
        intro c
        rw [if_neg c]
        refine blk kX5_says_93 ?_
        refine callv_g hM.1 (no_PO (k := 2) r (by decide) rfl) (fun r1 h1 hO => ?_)
        obtain ⟨rfl, hr⟩ := hO
        exact ⟨trivial, rfl, hr⟩
      have j100 : asK k is → WW G mX5_says (rmO 6 0 0) h (PO m (if asK k is then (.int (sayV σ i k), σ) else noI σ 2)) nX 100 [.ref m, .int x, .int k, .int is, dV, dV] [] h 0 0 := by
        intro c
        rw [if_pos c]
        refine blk kX5_says_100 ?_
        refine brn_c (fun c6 => ?_) (fun c6 => ?_)
        · have c6 : ¬ k = 0 := c6
          refine blk kX5_says_111 ?_
          refine brn_c (fun c7 => ?_) (fun c7 => ?_)
          · have c7 : ¬ k = nI 6 := c7
            refine blk kX5_says_124 ?_
            refine brn_c (fun c8 => ?_) (fun c8 => ?_)
            · have c8 : ¬ k = nI 4 := c8
              have eV : sayV σ i k = if (ordL σ i).length = 0 then -1 else if k = nI 1 ∨ k = nI 3 then nI ((ordL σ i).getD 0 0) else nI ((ordL σ i).getD ((ordL σ i).length - 1) 0) := by unfold sayV; rw [if_neg c6, if_neg c7, if_neg c8]
              have lo := ordL_ok (σ := σ) (i := i) (by rw [en]; exact hn)
              rw [en] at lo
              have hlen := lo.len
              refine blk kX5_says_172 ?_
              refine callv_g hM.1 (c_orders r x2 x1 d2) (fun r1 h1 hO => ?_)
              obtain ⟨rfl, k1, o⟩ := hO
              have hM := k1.MSh hM0
              refine ⟨_, hM.1, rfl, ?_⟩
              have r2 := r.mk k1
              generalize ordL σ i = L at *
              refine brn_c (fun c9 => ?_) (fun c9 => ?_)
              · have c9 : ¬ Fi h1 73 m = 0 := c9
                rw [o.1] at c9
                have hl : ¬ L.length = 0 := fun q => c9 (by rw [q]; rfl)
                rw [if_neg hl] at eV
                have j198 : (k = nI 1 ∨ k = nI 3) → WW G mX5_says (rmO 6 0 0) h (PO m (.int (sayV σ i k), σ)) nX 198 [.ref m, .int x, .int k, .int is, dV, dV] [] h1 0 0 := by
                  intro c
                  rw [if_pos c] at eV
                  refine blk kX5_says_198 ?_
                  refine ⟨_, _, hM.1, rfl, hM.order_.1, ?_⟩
                  refine ⟨0, _, hM.order_.2.1, Or.inl rfl, rfl, Nat.lt_of_lt_of_eq (by omega) hM.order_.2.2.symm, ?_⟩
                  refine blk kX5_says_218 ?_
                  exact ⟨trivial, by rw [eV, o.2 0 (by omega)], r2⟩
                refine blk kX5_says_188 ?_
                refine br_c (fun d8 => j198 (Or.inl d8)) (fun d8 => ?_)
                refine blk kX5_says_193 ?_
                refine brn_c (fun d9 => ?_) (fun d9 => j198 (Or.inr d9))
                rw [if_neg (fun q : k = nI 1 ∨ k = nI 3 => q.elim d8 d9)] at eV
                have ei : Fi h1 73 m - nI 1 = nI (L.length - 1) := by rw [o.1]; exact pk_sub (by omega)
                refine blk kX5_says_207 ?_
                refine ⟨_, _, hM.1, rfl, hM.order_.1, ?_⟩
                refine ⟨_, hM.1, rfl, ?_⟩
                refine ⟨L.length - 1, _, hM.order_.2.1, Or.inl rfl, ei, Nat.lt_of_lt_of_eq (by omega) hM.order_.2.2.symm, ?_⟩
                refine blk kX5_says_218 ?_
                exact ⟨trivial, by rw [eV, o.2 _ (by omega)], r2⟩
              · have c9 : Fi h1 73 m = 0 := c9
                rw [o.1] at c9
                have hl : L.length = 0 := (nI_eq (by omega) (by decide)).mp c9
                rw [if_pos hl] at eV
                refine blk kX5_says_184 ?_
                refine blk kX5_says_218 ?_
                exact ⟨trivial, by rw [eV], r2⟩
            · have c8 : k = nI 4 := c8
              have eV : sayV σ i k = nI (cheapS (gT σ) (gS σ 4 i) n) := by unfold sayV; rw [if_neg c6, if_neg c7, if_pos c8, en]
              refine blk kX5_says_129 ?_
              have loop : ∀ (q c : Nat) (z v : Int32), c + q = n → z = nI c → v = nI (cheapS (gT σ) (gS σ 4 i) c) → WW G mX5_says (rmO 6 0 0) h (PO m (.int (sayV σ i k), σ)) nX 135 [.ref m, .int x, .int k, .int is, .int v, .int z] [] h 0 0 := by
                intro q
                induction q with
                | zero =>
                  intro c z v hq hz hv
                  have hc : n = c := by omega
                  subst hc
                  refine blk kX5_says_135 ?_
                  refine ⟨_, hM.1, rfl, ?_⟩
                  refine br_t (by rw [hz]; exact Int32.le_of_eq t.nH) ?_
                  refine blk kX5_says_169 ?_
                  exact ⟨trivial, by rw [eV, hv], r⟩
                | succ q ih =>
                  intro c z v hq hz hv
                  have hc : c < n := by omega
                  refine blk kX5_says_135 ?_
                  refine ⟨_, hM.1, rfl, ?_⟩
                  refine br_f (by rw [hz, t.nH]; exact nI_ge hc (by omega)) ?_
                  have nxt : ∀ v : Int32, v = nI (cheapS (gT σ) (gS σ 4 i) (c + 1)) → WW G mX5_says (rmO 6 0 0) h (PO m (.int (sayV σ i k), σ)) nX 163 [.ref m, .int x, .int k, .int is, .int v, .int z] [] h 0 0 := by
                    intro v hv
                    refine blk kX5_says_163 ?_
                    exact ih (c + 1) _ _ (by omega) (by rw [hz]; exact nI_add c 1) hv
                  refine blk kX5_says_144 ?_
                  refine ⟨_, _, hM.1, rfl, hM.cost_.1, ?_⟩
                  refine ⟨c, _, hM.cost_.2.1, Or.inl rfl, hz, Nat.lt_of_lt_of_eq (by omega) hM.cost_.2.2.symm, ?_⟩
                  refine ⟨_, _, hM.1, rfl, hM.by_.1, ?_⟩
                  refine ⟨i, _, hM.by_.2.1, Or.inl rfl, x1, Nat.lt_of_lt_of_eq (by omega) hM.by_.2.2.symm, ?_⟩
                  refine br_c (fun d8 => ?_) (fun d8 => ?_)
                  · have d8 : Ai h (m + 19) i < Ai h (m + 10) c := d8
                    rw [e4, t.cost_ hc] at d8
                    exact nxt _ (by rw [hv, show cheapS (gT σ) (gS σ 4 i) (c + 1) = _ from if_pos d8])
                  · have d8 : ¬ Ai h (m + 19) i < Ai h (m + 10) c := d8
                    rw [e4, t.cost_ hc] at d8
                    refine blk kX5_says_160 ?_
                    exact nxt _ (by rw [hv, show cheapS (gT σ) (gS σ 4 i) (c + 1) = _ from if_neg d8]; exact nI_add _ 1)
              exact loop n 0 _ _ (by omega) rfl rfl
          · have c7 : k = nI 6 := c7
            refine blk kX5_says_117 ?_
            refine ⟨_, _, hM.1, rfl, hM.size_.1, ?_⟩
            refine ⟨i, _, hM.size_.2.1, Or.inl rfl, x1, Nat.lt_of_lt_of_eq (by omega) hM.size_.2.2.symm, ?_⟩
            exact ⟨trivial, by rw [e2]; unfold sayV; rw [if_neg c6, if_pos c7], r⟩
        · have c6 : k = 0 := c6
          refine blk kX5_says_104 ?_
          refine ⟨_, _, hM.1, rfl, hM.by_.1, ?_⟩
          refine ⟨i, _, hM.by_.2.1, Or.inl rfl, x1, Nat.lt_of_lt_of_eq (by omega) hM.by_.2.2.symm, ?_⟩
          exact ⟨trivial, by rw [e4]; unfold sayV; rw [if_pos c6], r⟩
      refine br_c (fun c6 => j100 (Or.inl c6)) (fun c6 => ?_)
      refine blk kX5_says_68 ?_
      refine br_c (fun c7 => j100 (Or.inr (Or.inl c7))) (fun c7 => ?_)
      have j83 : ¬ (k = nI 1 ∧ is = nI 3) → WW G mX5_says (rmO 6 0 0) h (PO m (if asK k is then (.int (sayV σ i k), σ) else noI σ 2)) nX 83 [.ref m, .int x, .int k, .int is, dV, dV] [] h 0 0 := by
        intro d1
        have bad2 : ¬ (k = nI 2 ∧ is = nI 5) → ¬ asK k is := fun d2 q => q.elim c6 (fun q => q.elim c7 (fun q => q.elim d1 d2))
        refine blk kX5_says_83 ?_
        refine brn_c (fun c8 => j93 (bad2 (fun q => c8 q.1))) (fun c8 => ?_)
        refine blk kX5_says_88 ?_
        exact br_c (fun c9 => j100 (Or.inr (Or.inr (Or.inr ⟨c8, c9⟩)))) (fun c9 => j93 (bad2 (fun q => c9 q.2)))
      refine blk kX5_says_73 ?_
      refine brn_c (fun c8 => j83 (fun q => c8 q.1)) (fun c8 => ?_)
      refine blk kX5_says_78 ?_
      exact br_c (fun c9 => j100 (Or.inr (Or.inr (Or.inl ⟨c8, c9⟩)))) (fun c9 => j83 (fun q => c9 q.2))
    · have c5 : Ai h (m + 15) i = 0 := c5
      rw [e0] at c5
      rw [if_pos c5]
      refine blk kX5_says_50 ?_
      refine callv_g hM.1 (no_PO (k := 3) r (by decide) rfl) (fun r1 h1 hO => ?_)
      obtain ⟨rfl, hr⟩ := hO
      exact ⟨trivial, rfl, hr⟩
  · have c4 : Ai h (m + 15) i = nI 1 := c4
    rw [e0] at c4
    rw [if_pos c4]
    refine blk kX5_says_34 ?_
    refine callv_g hM.1 (no_PO (k := 2) r (by decide) rfl) (fun r1 h1 hO => ?_)
    obtain ⟨rfl, hr⟩ := hO
    exact ⟨trivial, rfl, hr⟩
