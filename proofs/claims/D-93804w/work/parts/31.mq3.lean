set_option maxRecDepth 100000
theorem sAi_back {h : Hp} {a b i : Nat} {v w : Int32} {g : Nat → Int64} (hw : w = Ai h a i) : sAi (rAl (sAi h a i v) b g) a i w = rAl h b g := by
  unfold sAi rAl
  simp only [Kd, Ln, Fi, Fl, Fr, Ai, Al, Ar, Nx]
  congr
  funext x y
  simp only [up2_ap]
  split
  · rename_i e
    rw [hw, e.1, e.2]
    rfl
  · rfl
theorem rAl_sAi {h : Hp} {a b i : Nat} {v : Int32} {g : Nat → Int64} : rAl (sAi h a i v) b g = sAi (rAl h b g) a i v := rfl
def up11 (T : Tw) (i : Nat) : Tw := setA T 11 i (T.2 11 i + nI 1)
def wofP (T : Tw) (n k : Nat) (w : Nat → Int64) (i : Nat) : Int64 := meS T n w k - meS (up11 T i) n w k
theorem rg_add1 {x : Int32} (h : Rg 0 2 x) (h2 : ¬ x = nI 2) : Rg 0 2 (x + nI 1) := by
  obtain ⟨e, hl⟩ := h.ix (N := 3) (by decide)
  have : x.toNatClampNeg ≠ 2 := fun q => h2 (by rw [e, q])
  rw [e, nI_add]
  exact rgN (by omega) (by omega) (by omega)
theorem c_worthOf {G : GG} {h : Hp} {m i s n k : Nat} {T : Tw} {x : Int32} {w : Nat → Int64} (hM : MSh m h) (hT : MTw m h T s n k) (hi : i < n) (hx : x = nI i) (h2 : ¬ T.2 11 i = nI 2) (hw : ∀ set, set < 2 ^ n → Al h (m + 27) set = w set) : Ct G mX5_worthOf 4 0 0 [.ref m, .int x] h (fun r h2 => r = some (.long (wofP T n k w i)) ∧ ∃ g, h2 = rAl h (m + 26) g) nX := by
  have hn := hT.n10
  have es := hT.steps_ hi
  have hT2 : MTw m (sAi h (m + 13) i (Ai h (m + 13) i + nI 1)) (up11 T i) s n k := by
    unfold up11
    rw [← es]
    exact hT.set_steps (by rw [es]; exact rg_add1 (hT.1.house hi).steps_ h2)
  refine Ct.mk ok_mX5_worthOf ?_
  refine blk kX5_worthOf_0 ?_
  refine callv_g hM.1 (c_meanNow (w := w) hM hT hw) (fun r1 h1 hO => ?_)
  obtain ⟨rfl, g, rfl⟩ := hO
  refine ⟨_, _, hM.1, rfl, hM.steps_.1, ?_⟩
  refine ⟨i, _, hM.steps_.2.1, Or.inl rfl, hx, Nat.lt_of_lt_of_eq (by omega) hM.steps_.2.2.symm, ?_⟩
  refine ⟨i, hM.steps_.2.1, hx, Nat.lt_of_lt_of_eq (by omega) hM.steps_.2.2.symm, ?_⟩
  refine blk kX5_worthOf_15 ?_
  refine callv_g hM.1 (c_meanNow (h := rAl (sAi h (m + 13) i (Ai h (m + 13) i + nI 1)) (m + 26) g) (w := w) hM hT2 (fun set hs => by rw [Al_rAl_ne (by omega)]; exact hw set hs)) (fun r1 h1 hO => ?_)
  obtain ⟨rfl, g2, rfl⟩ := hO
  refine ⟨_, _, hM.1, rfl, hM.steps_.1, ?_⟩
  refine ⟨i, _, hM.steps_.2.1, Or.inl rfl, hx, Nat.lt_of_lt_of_eq (by omega) hM.steps_.2.2.symm, ?_⟩
  refine ⟨i, hM.steps_.2.1, hx, Nat.lt_of_lt_of_eq (by omega) hM.steps_.2.2.symm, ?_⟩
  refine ⟨trivial, rfl, g2, ?_⟩
  rw [rAl_rAl]
  refine sAi_back ?_
  show up2 (Ai h) (m + 13) i (Ai h (m + 13) i + nI 1) (m + 13) i - nI 1 = _
  rw [up2_ap, if_pos ⟨rfl, rfl⟩]
  exact Int32.add_sub_cancel _ _
def wT (T : Tw) : Nat → Int64 := wrP T (nI 2) (nI 1) (nSt T) (nHo T)
def wofT (T : Tw) (i : Nat) : Int64 := wofP T (nHo T) (nSk T) (wT T) i
def oWorth (σ : Sg) (x : Int32) : Value × Sg := if inH (gT σ) x then (if (gT σ).2 11 x.toNatClampNeg = nI 2 then (.long (-1000000 + -(nI 6)).toInt64, rfs σ 6) else (.long (wofT (gT σ) x.toNatClampNeg), σ)) else (.long (-1000000 + -(nI 1)).toInt64, rfs σ 1)
theorem o_worth {G : GG} {h : Hp} {m : Nat} {σ : Sg} {x : Int32} (r : MRep m h σ) : Ct G mX5_worth 5 0 0 [.ref m, .int x] h (PO m (oWorth σ x)) nX := by
  have hM := r.1
  obtain ⟨s, n, k, t⟩ := r.tw
  have hn := t.n10
  refine Ct.mk ok_mX5_worth ?_
  unfold oWorth
  refine blk kX5_worth_0 ?_
  refine callv_r hM.1 (c_isHouse hM t) ?_
  refine brn_c (fun c1 => ?_) (fun c1 => ?_)
  · have c1 := bI_ne c1
    have c9 : inH (gT σ) x := by unfold inH; rw [t.1.nHo_]; exact c1
    obtain ⟨x1, x2⟩ := inN_ix c1 (by omega)
    rw [if_pos c9]
    refine blk kX5_worth_15 ?_
    refine ⟨_, _, hM.1, rfl, hM.steps_.1, ?_⟩
    refine ⟨_, _, hM.steps_.2.1, Or.inl rfl, x1, Nat.lt_of_lt_of_eq (by omega) hM.steps_.2.2.symm, ?_⟩
    refine brn_c (fun c2 => ?_) (fun c2 => ?_)
    · have c2 : ¬ Ai h (m + 13) x.toNatClampNeg = nI 2 := c2
      rw [t.steps_ x2] at c2
      rw [if_neg c2]
      unfold wofT wT
      rw [t.1.nSt_, t.1.nHo_, t.1.nSk_]
      refine blk kX5_worth_33 ?_
      refine callv_g hM.1 (c_worthsBy hM t) (fun r1 h1 hO => ?_)
      obtain ⟨rfl, g, rfl, hg⟩ := hO
      refine callv_g hM.1 (c_worthOf (h := rAl h (m + 27) g) (w := wrP (gT σ) (nI 2) (nI 1) s n) hM t x2 x1 c2 (fun set hs => by rw [Al_rAl]; exact hg set hs)) (fun r1 h1 hO => ?_)
      obtain ⟨rfl, g2, rfl⟩ := hO
      exact ⟨trivial, rfl, r.mk (MK.tr (MK.rAl rfl) (MK.rAl rfl))⟩
    · have c2 : Ai h (m + 13) x.toNatClampNeg = nI 2 := c2
      rw [t.steps_ x2] at c2
      rw [if_pos c2]
      refine blk kX5_worth_25 ?_
      refine callv_g hM.1 (noLow_PO (k := 6) r (by decide) rfl) (fun r1 h1 hO => ?_)
      obtain ⟨rfl, hr⟩ := hO
      exact ⟨trivial, rfl, hr⟩
  · have c1 := bI_eq c1
    have c9 : ¬ inH (gT σ) x := by unfold inH; rw [t.1.nHo_]; exact c1
    rw [if_neg c9]
    refine blk kX5_worth_8 ?_
    refine callv_g hM.1 (noLow_PO (k := 1) r (by decide) rfl) (fun r1 h1 hO => ?_)
    obtain ⟨rfl, hr⟩ := hO
    exact ⟨trivial, rfl, hr⟩
/-- the house whose step is worth most of its cost -/
def whS (T : Tw) : Nat → Int32 × Int64
  | 0 => (-1, lN 0)
  | i + 1 => if T.2 11 i = nI 2 then whS T i else if (whS T i).1 = -1 ∨ (whS T i).2 < wofT T i / (T.2 8 i).toInt64 then (nI i, wofT T i / (T.2 8 i).toInt64) else whS T i
theorem cost_ne {x : Int32} (h : Rg 1 99 x) : ¬ x.toInt64 = 0 := by
  intro e
  have h1 := congrArg Int64.toInt e
  rw [Int32.toInt_toInt64] at h1
  have := h.1
  have h2 : (0 : Int64).toInt = 0 := rfl
  omega
theorem o_which {G : GG} {h : Hp} {m : Nat} {σ : Sg} (r : MRep m h σ) : Ct G mX5_which 5 0 0 [.ref m] h (PO m (.int (whS (gT σ) (nHo (gT σ))).1, σ)) nX := by
  have hM := r.1
  obtain ⟨s, n, k, t⟩ := r.tw
  have hn := t.n10
  have ew : ∀ i, wofT (gT σ) i = wofP (gT σ) n k (wrP (gT σ) (nI 2) (nI 1) s n) i := fun i => by unfold wofT wT; rw [t.1.nSt_, t.1.nHo_, t.1.nSk_]
  rw [t.1.nHo_]
  generalize gT σ = T at *
  refine Ct.mk ok_mX5_which ?_
  refine blk kX5_which_0 ?_
  refine callv_g hM.1 (c_worthsBy hM t) (fun r1 h1 hO => ?_)
  obtain ⟨rfl, g, rfl, hg⟩ := hO
  have loop : ∀ (q i : Nat) (z b : Int32) (mo : Int64) (v5 v6 : Value) (g2 : Nat → Int64), i + q = n → z = nI i → (b, mo) = whS T i → WW G mX5_which (rmO 5 0 0) h (PO m (.int (whS T n).1, σ)) nX 13 [.ref m, .int b, .long mo, dV, .int z, v5, v6] [] (rAl (rAl h (m + 27) g) (m + 26) g2) 0 0 := by
    intro q
    induction q with
    | zero =>
      intro i z b mo v5 v6 g2 hq hz hs
      have hi : n = i := by omega
      subst hi
      refine blk kX5_which_13 ?_
      refine ⟨_, hM.1, rfl, ?_⟩
      refine br_t (by rw [hz]; exact Int32.le_of_eq t.nH) ?_
      refine blk kX5_which_80 ?_
      exact ⟨trivial, by rw [← hs], r.mk (MK.tr (MK.rAl rfl) (MK.rAl rfl))⟩
    | succ q ih =>
      intro i z b mo v5 v6 g2 hq hz hs
      have hi : i < n := by omega
      refine blk kX5_which_13 ?_
      refine ⟨_, hM.1, rfl, ?_⟩
      refine br_f (by rw [hz]; rw [show Fi (rAl (rAl h (m + 27) g) (m + 26) g2) 30 m = nI n from t.nH]; exact nI_ge hi (by omega)) ?_
      have nxt : ∀ (b : Int32) (mo : Int64) (v5 v6 : Value) (g2 : Nat → Int64), (b, mo) = whS T (i + 1) → WW G mX5_which (rmO 5 0 0) h (PO m (.int (whS T n).1, σ)) nX 74 [.ref m, .int b, .long mo, dV, .int z, v5, v6] [] (rAl (rAl h (m + 27) g) (m + 26) g2) 0 0 := by
        intro b mo v5 v6 g2 h2
        refine blk kX5_which_74 ?_
        exact ih (i + 1) _ _ _ _ _ _ (by omega) (by rw [hz]; exact nI_1 i) h2
      refine blk kX5_which_22 ?_
      refine ⟨_, _, hM.1, rfl, hM.steps_.1, ?_⟩
      refine ⟨i, _, hM.steps_.2.1, Or.inl rfl, hz, Nat.lt_of_lt_of_eq (by omega) hM.steps_.2.2.symm, ?_⟩
      refine brn_c (fun c1 => ?_) (fun c1 => ?_)
      · have c1 : ¬ Ai h (m + 13) i = nI 2 := c1
        rw [t.steps_ hi] at c1
        have hw9 : ∀ set, set < 2 ^ n → Al (rAl (rAl h (m + 27) g) (m + 26) g2) (m + 27) set = wrP T (nI 2) (nI 1) s n set := fun set hs => by rw [Al_rAl_ne (by omega), Al_rAl]; exact hg set hs
        refine blk kX5_which_36 ?_
        refine callv_g hM.1 (c_worthOf (h := rAl (rAl h (m + 27) g) (m + 26) g2) hM t hi hz c1 hw9) (fun r1 h1 hO => ?_)
        obtain ⟨rfl, g3, rfl⟩ := hO
        rw [rAl_rAl]
        refine ⟨_, _, hM.1, rfl, hM.cost_.1, ?_⟩
        refine ⟨i, _, hM.cost_.2.1, Or.inl rfl, hz, Nat.lt_of_lt_of_eq (by omega) hM.cost_.2.2.symm, ?_⟩
        refine ⟨(by rw [show Ai (rAl (rAl h (m + 27) g) (m + 26) g3) (m + 10) i = T.2 8 i from t.cost_ hi]; exact cost_ne (t.1.house hi).cost_), ?_⟩
        rw [show Ai (rAl (rAl h (m + 27) g) (m + 26) g3) (m + 10) i = T.2 8 i from t.cost_ hi, ← ew i]
        have set_ : (whS T i).1 = -1 ∨ (whS T i).2 < wofT T i / (T.2 8 i).toInt64 → WW G mX5_which (rmO 5 0 0) h (PO m (.int (whS T n).1, σ)) nX 68 [.ref m, .int b, .long mo, dV, .int z, .long (wofT T i / (T.2 8 i).toInt64), dV] [] (rAl (rAl h (m + 27) g) (m + 26) g3) 0 0 := by
          intro c
          refine blk kX5_which_68 ?_
          refine nxt _ _ _ _ _ ?_
          simp only [whS]
          rw [if_neg c1, if_pos c, hz]
        refine br_c (fun c2 => ?_) (fun c2 => ?_)
        · exact set_ (Or.inl (by rw [← hs]; exact c2))
        · refine blk kX5_which_58 ?_
          refine br_c (fun c3 => ?_) (fun c3 => ?_)
          · exact set_ (Or.inr (by rw [← hs]; exact (lg_cmp_gt _ _).mp c3))
          · refine blk kX5_which_65 ?_
            refine nxt _ _ _ _ _ ?_
            simp only [whS]
            rw [if_neg c1, if_neg, hs]
            rw [← hs]
            rintro (q | q)
            · exact c2 q
            · exact c3 ((lg_cmp_gt _ _).mpr q)
      · have c1 : Ai h (m + 13) i = nI 2 := c1
        rw [t.steps_ hi] at c1
        refine blk kX5_which_33 ?_
        refine nxt _ _ _ _ _ ?_
        simp only [whS]
        rw [if_pos c1, hs]
  have key := loop n 0 _ (-1) (lN 0) dV dV (Al (rAl h (m + 27) g) (m + 26)) (by omega) rfl rfl
  rw [rAl_self] at key
  exact key
