set_option maxRecDepth 100000
def yrsS (σ : Sg) (i : Nat) : Nat → Sg × Int32
  | 0 => (σ, nI 0)
  | y + 1 => (((livS (gT (yrsS σ i y).1) (ordL (yrsS σ i y).1 i)).1, (yrsS σ i y).1.2), (yrsS σ i y).2 + (livS (gT (yrsS σ i y).1) (ordL (yrsS σ i y).1 i)).2)
theorem yrsS_2 {σ : Sg} {i : Nat} : ∀ y, (yrsS σ i y).1.2 = σ.2
  | 0 => rfl
  | y + 1 => yrsS_2 y
def oYears (σ : Sg) (x y : Int32) : Value × Sg := if wn σ x 2 = 0 then (if yrs y then (.int (yrsS σ x.toNatClampNeg y.toNatClampNeg).2, (yrsS σ x.toNatClampNeg y.toNatClampNeg).1) else noI σ 6) else noI σ (wn σ x 2)
theorem gS_2 {a b : Sg} (h : a.2 = b.2) : gS a = gS b := by unfold gS; rw [h]
theorem o_years {G : GG} {h : Hp} {m : Nat} {σ : Sg} {x y : Int32} (r : MRep m h σ) : Ct G mX5_years 8 0 0 [.ref m, .int x, .int y] h (PO m (oYears σ x y)) nX := by
  have hM := r.1
  refine Ct.mk ok_mX5_years ?_
  refine blk kX5_years_0 ?_
  refine callv_r hM.1 (c_wants r) ?_
  rw [wnt_wn]
  unfold oYears
  refine br_c (fun c1 => ?_) (fun c1 => ?_)
  · have c1 := (wn_eq wn_lt).mp c1
    rw [if_pos c1]
    obtain ⟨d1, d2, d3⟩ := wn_ok c1 r.sok (Or.inr rfl)
    obtain ⟨x1, x2⟩ := inN_ix d1 (by decide)
    refine blk kX5_years_17 ?_
    refine callv_r hM.1 (c_isYears) ?_
    refine brn_c (fun c2 => ?_) (fun c2 => ?_)
    · have c2 := bI_ne c2
      rw [if_pos c2]
      obtain ⟨y1, y2, -⟩ := yrs_ix c2
      generalize y.toNatClampNeg = N at *
      generalize x.toNatClampNeg = i at *
      generalize -(nI (wn σ x 2)) = v3
      refine blk kX5_years_32 ?_
      have loop : ∀ (q c : Nat) (z sum : Int32) (h' : Hp), c + q = N → z = nI c → sum = (yrsS σ i c).2 → MRep m h' (yrsS σ i c).1 → WW G mX5_years (rmO 8 0 0) h (PO m (.int (yrsS σ i N).2, (yrsS σ i N).1)) nX 38 [.ref m, .int x, .int y, .int v3, .int sum, .int z] [] h' 0 0 := by
        intro q
        induction q with
        | zero =>
          intro c z sum h' hq hz hs r
          have hc : N = c := by omega
          subst hc
          refine blk kX5_years_38 ?_
          refine br_t (by rw [hz, y1]; exact Int32.le_refl _) ?_
          refine blk kX5_years_60 ?_
          exact ⟨trivial, by rw [hs], r⟩
        | succ q ih =>
          intro c z sum h' hq hz hs r
          have hc : c < N := by omega
          have hM := r.1
          have e : gS (yrsS σ i c).1 = gS σ := gS_2 (yrsS_2 c)
          refine blk kX5_years_38 ?_
          refine br_f (by rw [hz, y1]; exact nI_ge hc (by omega)) ?_
          refine blk kX5_years_44 ?_
          refine callv_g hM.1 (c_lives r x2 x1 (by rw [e]; exact (d3.rule d2).2)) (fun r1 h1 hO => ?_)
          obtain ⟨rfl, r2⟩ := hO
          exact ih (c + 1) _ _ _ (by omega) (by rw [hz]; exact nI_add c 1) (by rw [hs]; rfl) r2
      exact loop N 0 _ _ h (by omega) rfl rfl r
    · have c2 := bI_eq c2
      rw [if_neg c2]
      refine blk kX5_years_25 ?_
      refine callv_g hM.1 (no_PO (k := 6) r (by decide) rfl) (fun r1 h1 hO => ?_)
      obtain ⟨rfl, hr⟩ := hO
      exact ⟨trivial, rfl, hr⟩
  · have c1 : ¬ wn σ x 2 = 0 := fun q => c1 ((wn_eq wn_lt).mpr q)
    rw [if_neg c1]
    refine blk kX5_years_11 ?_
    refine callv_g hM.1 (no_PO (k := wn σ x 2) r wn_lt rfl) (fun r1 h1 hO => ?_)
    obtain ⟨rfl, hr⟩ := hO
    exact ⟨trivial, rfl, hr⟩
def oSeed (σ : Sg) (v : Int32) : Value × Sg := (.int ((gT σ).1 9), (setS (gT σ) 9 v, σ.2))
theorem o_seed {G : GG} {h : Hp} {m : Nat} {σ : Sg} {v : Int32} (r : MRep m h σ) : Ct G mX5_seed 1 0 0 [.ref m, .int v] h (PO m (oSeed σ v)) nX := by
  have hM := r.1
  obtain ⟨s, n, k, t⟩ := r.tw
  refine Ct.mk ok_mX5_seed ?_
  refine blk kX5_seed_0 ?_
  refine ⟨_, hM.1, rfl, ?_⟩
  refine ⟨_, hM.1, rfl, ?_⟩
  exact ⟨trivial, by rw [show Fi h 38 m = (gT σ).1 9 from t.seed_]; rfl, r.tk (TK.sFi rfl) (t.setS_ (j := 9) (by decide))⟩
theorem o_fault {G : GG} {h : Hp} {m : Nat} {σ : Sg} (r : MRep m h σ) : Ct G mX5_fault 1 0 0 [.ref m] h (PO m (.int (gN σ 0), σ)) nX := by
  have hM := r.1
  refine Ct.mk ok_mX5_fault ?_
  refine blk kX5_fault_0 ?_
  refine ⟨_, hM.1, rfl, ?_⟩
  exact ⟨trivial, by rw [r.2.2.2.2.2.1.1], r⟩
def oTrace (σ : Sg) (x : Int32) : Value × Sg := (.int (if inN x 20 ∧ x < gN σ 1 then gX σ x.toNatClampNeg else -1), σ)
theorem o_trace {G : GG} {h : Hp} {m : Nat} {σ : Sg} {x : Int32} (r : MRep m h σ) : Ct G mX5_trace 1 0 0 [.ref m, .int x] h (PO m (oTrace σ x)) nX := by
  have hM := r.1
  have e1 := r.2.2.2.2.2.1.2.1
  refine Ct.mk ok_mX5_trace ?_
  unfold oTrace
  have bad : ¬ (inN x 20 ∧ x < gN σ 1) → WW G mX5_trace (rmO 1 0 0) h (PO m (.int (if inN x 20 ∧ x < gN σ 1 then gX σ x.toNatClampNeg else -1), σ)) nX 27 [.ref m, .int x] [] h 0 0 := by
    intro c
    rw [if_neg c]
    refine blk kX5_trace_27 ?_
    refine blk kX5_trace_28 ?_
    exact ⟨trivial, rfl, r⟩
  refine blk kX5_trace_0 ?_
  refine br_c (fun c1 => ?_) (fun c1 => ?_)
  · exact bad (fun q => Int32.not_lt.mpr q.1.1 c1)
  · refine blk kX5_trace_4 ?_
    refine br_c (fun c2 => ?_) (fun c2 => ?_)
    · exact bad (fun q => Int32.not_lt.mpr c2 q.1.2)
    · have c3 : inN x 20 := ⟨Int32.not_lt.mp c1, Int32.not_le.mp c2⟩
      obtain ⟨x1, x2⟩ := inN_ix c3 (by decide)
      refine blk kX5_trace_10 ?_
      refine ⟨_, hM.1, rfl, ?_⟩
      refine br_c (fun c4 => ?_) (fun c4 => ?_)
      · have c4 : Fi h 83 m ≤ x := c4
        rw [e1] at c4
        exact bad (fun q => Int32.not_lt.mpr c4 q.2)
      · have c4 : ¬ Fi h 83 m ≤ x := c4
        rw [e1] at c4
        rw [if_pos ⟨c3, Int32.not_le.mp c4⟩]
        refine blk kX5_trace_18 ?_
        refine ⟨_, _, hM.1, rfl, hM.trace_.1, ?_⟩
        refine ⟨_, _, hM.trace_.2.1, Or.inl rfl, x1, Nat.lt_of_lt_of_eq (by omega) hM.trace_.2.2.symm, ?_⟩
        refine blk kX5_trace_28 ?_
        exact ⟨trivial, by rw [r.2.2.2.2.2.2.1 _ x2], r⟩
def oImage (σ : Sg) : Value × Sg := (.int ((gT σ).1 7), (σ.1, σ.2.1, σ.2.2.1, σ.2.2.2.1, up1 σ.2.2.2.2.1 2 (nI 1), σ.2.2.2.2.2.1, σ.1))
theorem o_image {G : GG} {h : Hp} {m : Nat} {σ : Sg} (r : MRep m h σ) : Ct G mX5_image 2 0 0 [.ref m] h (PO m (oImage σ)) nX := by
  have hM := r.1
  obtain ⟨s, n, k, t⟩ := r.tw
  refine Ct.mk ok_mX5_image ?_
  refine blk kX5_image_0 ?_
  refine ⟨_, hM.1, rfl, Or.inr rfl, ?_⟩
  refine ⟨_, _, hM.1, rfl, hM.kept_.1, ?_⟩
  refine callv_g hM.1 (c_allI2 (h := sFi h 84 m (nI 1)) (o := 24) hM hM.kept_.2.1 hM.kept_.2.2 (by decide)) (fun r1 h1 hO => ?_)
  obtain ⟨rfl, f, ek⟩ := hO
  have f2 : FQ m [24] [] [84] h h1 := (FQ.sFi (by decide)).tr (f.up rfl rfl rfl)
  have hM := f2.MSh hM
  have t2 := f2.MTw t rfl rfl
  have e7 : Fi h1 36 m = (gT σ).1 7 := t2.year_
  have e84 : Fi h1 84 m = nI 1 := by rw [f.2.1 84 (by decide)]; exact Fi_sFi
  refine ⟨_, hM.1, rfl, ?_⟩
  refine ⟨trivial, by rw [e7]; rfl, ?_⟩
  obtain ⟨r1, -, r3, r4, r5, r6, r7, r8, r9, r10⟩ := r
  refine ⟨hM, ⟨s, n, k, t2⟩, fun i hi => ?_, fun a i ha hi => ?_, fun i hi => ?_, ⟨?_, ?_, ?_⟩, fun i hi => ?_, Or.inr ⟨rfl, s, n, k, t.1, fun j hj => ?_, fun a i ha hi => ?_⟩, fun i hi => ?_, r10⟩
  · rw [f2.2.2.1 1 (by decide)]; exact r3 i hi
  · rw [f2.2.2.1 (15 + a) (by simp; omega)]; exact r4 a i ha hi
  · rw [f2.2.2.2 20 (by decide)]; exact r5 i hi
  · rw [f2.2.1 39 (by decide)]; exact r6.1
  · rw [f2.2.1 83 (by decide)]; exact r6.2.1
  · rw [e84]; rfl
  · rw [f2.2.2.1 32 (by decide)]; exact r7 i hi
  · rw [ek, kept_n hj, Fi_sFi_ne (by omega)]; exact t.2.1 j hj
  · have hc := cn_ln (s := s) (n := n) (k := k) (a := a) t.s12 t.n10 t.k4
    rw [ek, kept_a ha (by omega)]
    exact t.2.2 a i ha hi
  · rw [f2.2.2.1 22 (by decide)]; exact r9 i hi
def oRestore (σ : Sg) : Value × Sg := if gN σ 2 = 0 then noI σ 6 else (.int ((gK σ).1 7), (gK σ, σ.2))
theorem o_restore {G : GG} {h : Hp} {m : Nat} {σ : Sg} (r : MRep m h σ) : Ct G mX5_restore 2 0 0 [.ref m] h (PO m (oRestore σ)) nX := by
  have hM := r.1
  have e2 := r.2.2.2.2.2.1.2.2
  refine Ct.mk ok_mX5_restore ?_
  unfold oRestore
  refine blk kX5_restore_0 ?_
  refine ⟨_, hM.1, rfl, ?_⟩
  refine brn_c (fun c1 => ?_) (fun c1 => ?_)
  · have c1 : ¬ Fi h 84 m = 0 := c1
    rw [e2] at c1
    rw [if_neg c1]
    refine blk kX5_restore_14 ?_
    refine ⟨_, _, hM.1, rfl, hM.kept_.1, ?_⟩
    refine callv_g hM.1 (c_allB2 (o := 24) hM hM.kept_.2.1 hM.kept_.2.2 (by decide)) (fun r1 h1 hO => ?_)
    obtain ⟨rfl, f, ha, hb⟩ := hO
    have hM := f.MSh hM
    obtain ⟨s, n, k, q1, q2, q3⟩ : ∃ s n k, KTw (Ai h (m + 24)) (gK σ) s n k := by
      rcases r.2.2.2.2.2.2.2.1 with q | q
      · exact absurd q c1
      · exact q.2
    have t2 : MTw m h1 (gK σ) s n k := by
      refine ⟨q1, fun j hj => (hb j hj).trans (q2 j hj), fun a i ha9 hi => ?_⟩
      have hc := cn_ln (s := s) (n := n) (k := k) (a := a) q1.1.2 q1.2.1.2 q1.2.2.1.2
      rw [ha a ha9]
      unfold bkF
      rw [if_pos (by omega)]
      exact q3 a i ha9 hi
    have e7 : Fi h1 36 m = (gK σ).1 7 := t2.year_
    refine ⟨_, hM.1, rfl, ?_⟩
    exact ⟨trivial, by rw [e7], r.tk (f.tk rfl rfl rfl) t2⟩
  · have c1 : Fi h 84 m = 0 := c1
    rw [e2] at c1
    rw [if_pos c1]
    refine blk kX5_restore_7 ?_
    refine callv_g hM.1 (no_PO (k := 6) r (by decide) rfl) (fun r1 h1 hO => ?_)
    obtain ⟨rfl, hr⟩ := hO
    exact ⟨trivial, rfl, hr⟩
def smA (f : Nat → Int32) : Nat → Int32
  | 0 => nI 0
  | i + 1 => smA f i + f i
def stV (σ : Sg) (x : Int32) : Int32 := if nI 11 ≤ x ∧ x ≤ nI 17 then gR σ (x - nI 10).toNatClampNeg else if x = nI 0 then (gT σ).1 0 else if x = nI 1 then (gT σ).1 1 else if x = nI 2 then (gT σ).1 2 else if x = nI 3 then smA ((gT σ).2 11) (nHo (gT σ)) else if x = nI 4 then (gT σ).1 6 else if x = nI 5 then (gT σ).1 7 else if x = nI 6 then (gT σ).1 8 else if x = nI 7 then (gT σ).1 9 else if x = nI 8 then gN σ 1 else -1
theorem o_status {G : GG} {h : Hp} {m : Nat} {σ : Sg} {x : Int32} (r : MRep m h σ) : Ct G mX5_status 1 0 0 [.ref m, .int x] h (PO m (.int (stV σ x), σ)) nX := by
  have hM := r.1
  obtain ⟨s, n, k, t⟩ := r.tw
  have hn := t.n10
  have en := t.1.nHo_
  refine Ct.mk ok_mX5_status ?_
  have r22 : ¬ (nI 11 ≤ x ∧ x ≤ nI 17) → WW G mX5_status (rmO 1 0 0) h (PO m (.int (stV σ x), σ)) nX 22 [.ref m, .int x, dV, dV] [] h 0 0 := by
    intro c
    refine blk kX5_status_22 ?_
    refine ⟨fun j tg hj hx => ?_, fun hx => ?_⟩
    · match j, hj with
      | 0, hj =>
        cases hj
        have e : stV σ x = (gT σ).1 0 := by unfold stV; rw [if_neg c, if_pos hx]
        refine blk kX5_status_76 ?_
        refine ⟨_, hM.1, rfl, ?_⟩
        exact ⟨trivial, by rw [e, show Fi h 29 m = (gT σ).1 0 from t.streets_], r⟩
      | 1, hj =>
        cases hj
        have e : stV σ x = (gT σ).1 1 := by unfold stV; rw [if_neg c, if_neg (by rw [hx]; decide), if_pos hx]
        refine blk kX5_status_81 ?_
        refine ⟨_, hM.1, rfl, ?_⟩
        exact ⟨trivial, by rw [e, show Fi h 30 m = (gT σ).1 1 from t.houses_], r⟩
      | 2, hj =>
        cases hj
        have e : stV σ x = (gT σ).1 2 := by unfold stV; rw [if_neg c, if_neg (by rw [hx]; decide), if_neg (by rw [hx]; decide), if_pos hx]
        refine blk kX5_status_86 ?_
        refine ⟨_, hM.1, rfl, ?_⟩
        exact ⟨trivial, by rw [e, show Fi h 31 m = (gT σ).1 2 from t.shakes_], r⟩
      | 3, hj =>
        cases hj
        have e : stV σ x = smA ((gT σ).2 11) n := by unfold stV; rw [if_neg c, if_neg (by rw [hx]; decide), if_neg (by rw [hx]; decide), if_neg (by rw [hx]; decide), if_pos hx, en]
        refine blk kX5_status_91 ?_
        have loop : ∀ (q i : Nat) (z sum : Int32), i + q = n → z = nI i → sum = smA ((gT σ).2 11) i → WW G mX5_status (rmO 1 0 0) h (PO m (.int (stV σ x), σ)) nX 93 [.ref m, .int x, .int sum, .int z] [] h 0 0 := by
          intro q
          induction q with
          | zero =>
            intro i z sum hq hz hs
            have hi : n = i := by omega
            subst hi
            refine blk kX5_status_93 ?_
            refine ⟨_, hM.1, rfl, ?_⟩
            refine br_t (by rw [hz]; exact Int32.le_of_eq t.nH) ?_
            refine blk kX5_status_116 ?_
            exact ⟨trivial, by rw [e, hs], r⟩
          | succ q ih =>
            intro i z sum hq hz hs
            have hi : i < n := by omega
            refine blk kX5_status_93 ?_
            refine ⟨_, hM.1, rfl, ?_⟩
            refine br_f (by rw [hz, t.nH]; exact nI_ge hi (by omega)) ?_
            refine blk kX5_status_101 ?_
            refine ⟨_, _, hM.1, rfl, hM.steps_.1, ?_⟩
            refine ⟨i, _, hM.steps_.2.1, Or.inl rfl, hz, Nat.lt_of_lt_of_eq (by omega) hM.steps_.2.2.symm, ?_⟩
            exact ih (i + 1) _ _ (by omega) (by rw [hz]; exact nI_add i 1) (by rw [hs, t.steps_ hi]; rfl)
        exact loop n 0 _ _ (by omega) rfl rfl
      | 4, hj =>
        cases hj
        have e : stV σ x = (gT σ).1 6 := by unfold stV; rw [if_neg c, if_neg (by rw [hx]; decide), if_neg (by rw [hx]; decide), if_neg (by rw [hx]; decide), if_neg (by rw [hx]; decide), if_pos hx]
        refine blk kX5_status_118 ?_
        refine ⟨_, hM.1, rfl, ?_⟩
        exact ⟨trivial, by rw [e, show Fi h 35 m = (gT σ).1 6 from t.purse_], r⟩
      | 5, hj =>
        cases hj
        have e : stV σ x = (gT σ).1 7 := by unfold stV; rw [if_neg c, if_neg (by rw [hx]; decide), if_neg (by rw [hx]; decide), if_neg (by rw [hx]; decide), if_neg (by rw [hx]; decide), if_neg (by rw [hx]; decide), if_pos hx]
        refine blk kX5_status_123 ?_
        refine ⟨_, hM.1, rfl, ?_⟩
        exact ⟨trivial, by rw [e, show Fi h 36 m = (gT σ).1 7 from t.year_], r⟩
      | 6, hj =>
        cases hj
        have e : stV σ x = (gT σ).1 8 := by unfold stV; rw [if_neg c, if_neg (by rw [hx]; decide), if_neg (by rw [hx]; decide), if_neg (by rw [hx]; decide), if_neg (by rw [hx]; decide), if_neg (by rw [hx]; decide), if_neg (by rw [hx]; decide), if_pos hx]
        refine blk kX5_status_128 ?_
        refine ⟨_, hM.1, rfl, ?_⟩
        exact ⟨trivial, by rw [e, show Fi h 37 m = (gT σ).1 8 from t.gone_], r⟩
      | 7, hj =>
        cases hj
        have e : stV σ x = (gT σ).1 9 := by unfold stV; rw [if_neg c, if_neg (by rw [hx]; decide), if_neg (by rw [hx]; decide), if_neg (by rw [hx]; decide), if_neg (by rw [hx]; decide), if_neg (by rw [hx]; decide), if_neg (by rw [hx]; decide), if_neg (by rw [hx]; decide), if_pos hx]
        refine blk kX5_status_133 ?_
        refine ⟨_, hM.1, rfl, ?_⟩
        exact ⟨trivial, by rw [e, show Fi h 38 m = (gT σ).1 9 from t.seed_], r⟩
      | 8, hj =>
        cases hj
        have e : stV σ x = gN σ 1 := by unfold stV; rw [if_neg c, if_neg (by rw [hx]; decide), if_neg (by rw [hx]; decide), if_neg (by rw [hx]; decide), if_neg (by rw [hx]; decide), if_neg (by rw [hx]; decide), if_neg (by rw [hx]; decide), if_neg (by rw [hx]; decide), if_neg (by rw [hx]; decide), if_pos hx]
        refine blk kX5_status_138 ?_
        refine ⟨_, hM.1, rfl, ?_⟩
        exact ⟨trivial, by rw [e, r.2.2.2.2.2.1.2.1], r⟩
      | j + 9, hj => cases hj
    · have e : stV σ x = -1 := by
        unfold stV
        rw [if_neg c, if_neg (hx 0 (by decide)), if_neg (hx 1 (by decide)), if_neg (hx 2 (by decide)), if_neg (hx 3 (by decide)), if_neg (hx 4 (by decide)), if_neg (hx 5 (by decide)), if_neg (hx 6 (by decide)), if_neg (hx 7 (by decide)), if_neg (hx 8 (by decide))]
      refine blk kX5_status_143 ?_
      exact ⟨trivial, by rw [e], r⟩
  refine blk kX5_status_0 ?_
  refine br_c (fun c1 => ?_) (fun c1 => ?_)
  · exact r22 (fun q => Int32.not_lt.mpr q.1 c1)
  · refine blk kX5_status_6 ?_
    refine br_c (fun c2 => ?_) (fun c2 => ?_)
    · exact r22 (fun q => Int32.not_lt.mpr q.2 c2)
    · have c3 : nI 11 ≤ x ∧ x ≤ nI 17 := ⟨Int32.not_lt.mp c1, Int32.not_lt.mp c2⟩
      obtain ⟨j, hj, hx⟩ := nI_of2 (x := x) (M := nI 17) (n := 17) (by decide) (fun q => by
        have h1 := c3.1
        rw [Int32.le_iff_toInt_le] at h1
        rw [Int32.lt_iff_toInt_lt, Int32.toInt_zero] at q
        have : (nI 11).toInt = 11 := by decide
        omega) c3.2
      have hj2 : 11 ≤ j := by
        have h1 := c3.1
        rw [hx, nI_leI (by decide) (by omega)] at h1
        exact h1
      have ex : x - nI 10 = nI (j - 10) := by rw [hx]; exact pk_sub (by omega)
      have e : stV σ x = gR σ (j - 10) := by unfold stV; rw [if_pos c3, ex, nI_clamp (by omega)]
      refine blk kX5_status_12 ?_
      refine ⟨_, _, hM.1, rfl, hM.refused_.1, ?_⟩
      refine ⟨j - 10, _, hM.refused_.2.1, Or.inl rfl, ex, Nat.lt_of_lt_of_eq (by omega) hM.refused_.2.2.symm, ?_⟩
      exact ⟨trivial, by rw [e, r.2.2.1 _ (by omega)], r⟩
