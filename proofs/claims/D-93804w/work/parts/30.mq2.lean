set_option maxRecDepth 100000
abbrev inSet (T : Tw) (x : Int32) : Prop := 0 ≤ x ∧ x < nI (2 ^ nHo T)
def cutT (T : Tw) (set : Int32) : Int32 := cutP T set (nSt T) (nHo T)
def oCut (σ : Sg) (x : Int32) : Value × Sg := if inSet (gT σ) x then (.int (cutT (gT σ) x), σ) else noI σ 1
theorem o_cut {G : GG} {h : Hp} {m : Nat} {σ : Sg} {x : Int32} (r : MRep m h σ) : Ct G mX5_cut 1 0 0 [.ref m, .int x] h (PO m (oCut σ x)) nX := by
  have hM := r.1
  obtain ⟨s, n, k, t⟩ := r.tw
  have hn := t.n10
  refine Ct.mk ok_mX5_cut ?_
  have bad : ¬ inSet (gT σ) x → WW G mX5_cut (rmO 1 0 0) h (PO m (oCut σ x)) nX 22 [.ref m, .int x] [] h 0 0 := by
    intro c
    unfold oCut
    rw [if_neg c]
    refine blk kX5_cut_22 ?_
    refine callv_g hM.1 (no_PO (k := 1) r (by decide) rfl) (fun r1 h1 hO => ?_)
    obtain ⟨rfl, hr⟩ := hO
    refine blk kX5_cut_27 ?_
    exact ⟨trivial, rfl, hr⟩
  have e2 : nI 1 <<< (Fi h 30 m &&& 31) = nI (2 ^ n) := by rw [t.nH]; exact nI_shl (by omega)
  refine blk kX5_cut_0 ?_
  refine br_c (fun c1 => ?_) (fun c1 => ?_)
  · exact bad (fun q => Int32.not_lt.mpr q.1 c1)
  · refine blk kX5_cut_4 ?_
    refine ⟨_, hM.1, rfl, ?_⟩
    refine br_c (fun c2 => ?_) (fun c2 => ?_)
    · have c2 : nI 1 <<< (Fi h 30 m &&& 31) ≤ x := c2
      rw [e2] at c2
      exact bad (fun q => Int32.not_lt.mpr c2 (by have := q.2; rw [t.1.nHo_] at this; exact this))
    · have c2 : ¬ nI 1 <<< (Fi h 30 m &&& 31) ≤ x := c2
      rw [e2] at c2
      unfold oCut
      rw [if_pos ⟨Int32.not_lt.mp c1, by rw [t.1.nHo_]; exact Int32.not_le.mp c2⟩]
      unfold cutT
      rw [t.1.nSt_, t.1.nHo_]
      refine blk kX5_cut_14 ?_
      refine callv_r hM.1 (c_cutOf hM t) ?_
      refine blk kX5_cut_27 ?_
      exact ⟨trivial, rfl, r⟩
def lostT (T : Tw) (j : Nat) (hour caught : Int32) : Int64 := loP T j (nHo T) (wrP T hour caught (nSt T) (nHo T))
abbrev isHr (x : Int32) : Prop := 0 ≤ x ∧ x ≤ nI 1
def oLost (caught : Int32) (σ : Sg) (x hr : Int32) : Value × Sg := if inK (gT σ) x then (if isHr hr then (.long (lostT (gT σ) x.toNatClampNeg hr caught), σ) else noL σ 6) else noL σ 1
theorem o_lost {G : GG} {h : Hp} {m : Nat} {σ : Sg} {x y : Int32} (r : MRep m h σ) : Ct G mX5_lost 3 0 0 [.ref m, .int x, .int y] h (PO m (oLost (nI 1) σ x y)) nX := by
  have hM := r.1
  obtain ⟨s, n, k, t⟩ := r.tw
  have hk := t.k4
  refine Ct.mk ok_mX5_lost ?_
  refine blk kX5_lost_0 ?_
  refine callv_r hM.1 (c_isShake hM t) ?_
  refine brn_c (fun c1 => ?_) (fun c1 => ?_)
  · have c1 := bI_ne c1
    have c9 : inK (gT σ) x := by unfold inK; rw [t.1.nSk_]; exact c1
    obtain ⟨x1, x2⟩ := inN_ix c1 (by omega)
    have bad : ¬ isHr y → WW G mX5_lost (rmO 3 0 0) h (PO m (oLost (nI 1) σ x y)) nX 24 [.ref m, .int x, .int y] [] h 0 0 := by
      intro c
      unfold oLost
      rw [if_pos c9, if_neg c]
      refine blk kX5_lost_24 ?_
      refine callv_g hM.1 (no_PO (k := 6) r (by decide) rfl) (fun r1 h1 hO => ?_)
      obtain ⟨rfl, hr⟩ := hO
      exact ⟨trivial, rfl, hr⟩
    refine blk kX5_lost_15 ?_
    refine br_c (fun c2 => ?_) (fun c2 => ?_)
    · exact bad (fun q => Int32.not_lt.mpr q.1 c2)
    · refine blk kX5_lost_19 ?_
      refine br_c (fun c3 => ?_) (fun c3 => ?_)
      · unfold oLost
        rw [if_pos c9, if_pos ⟨Int32.not_lt.mp c2, c3⟩]
        refine blk kX5_lost_32 ?_
        refine callv_g hM.1 (c_worthsBy hM t) (fun r1 h1 hO => ?_)
        obtain ⟨rfl, g, rfl, hg⟩ := hO
        refine callv_g hM.1 (c_lostBy (h := rAl h (m + 27) g) (w := wrP (gT σ) y (nI 1) s n) hM t x2 x1 (fun set hs => by rw [Al_rAl]; exact hg set hs)) (fun r1 h1 hO => ?_)
        obtain ⟨rfl, g2, rfl⟩ := hO
        refine ⟨trivial, ?_, r.mk (MK.tr (MK.rAl rfl) (MK.rAl rfl))⟩
        unfold lostT
        rw [t.1.nSt_, t.1.nHo_]
      · exact bad (fun q => c3 q.2)
  · have c1 := bI_eq c1
    have c9 : ¬ inK (gT σ) x := by unfold inK; rw [t.1.nSk_]; exact c1
    unfold oLost
    rw [if_neg c9]
    refine blk kX5_lost_8 ?_
    refine callv_g hM.1 (no_PO (k := 1) r (by decide) rfl) (fun r1 h1 hO => ?_)
    obtain ⟨rfl, hr⟩ := hO
    exact ⟨trivial, rfl, hr⟩
theorem o_dead {G : GG} {h : Hp} {m : Nat} {σ : Sg} {x y : Int32} (r : MRep m h σ) : Ct G mX5_dead 3 0 0 [.ref m, .int x, .int y] h (PO m (oLost (nI 0) σ x y)) nX := by
  have hM := r.1
  obtain ⟨s, n, k, t⟩ := r.tw
  have hk := t.k4
  refine Ct.mk ok_mX5_dead ?_
  refine blk kX5_dead_0 ?_
  refine callv_r hM.1 (c_isShake hM t) ?_
  refine brn_c (fun c1 => ?_) (fun c1 => ?_)
  · have c1 := bI_ne c1
    have c9 : inK (gT σ) x := by unfold inK; rw [t.1.nSk_]; exact c1
    obtain ⟨x1, x2⟩ := inN_ix c1 (by omega)
    have bad : ¬ isHr y → WW G mX5_dead (rmO 3 0 0) h (PO m (oLost (nI 0) σ x y)) nX 24 [.ref m, .int x, .int y] [] h 0 0 := by
      intro c
      unfold oLost
      rw [if_pos c9, if_neg c]
      refine blk kX5_dead_24 ?_
      refine callv_g hM.1 (no_PO (k := 6) r (by decide) rfl) (fun r1 h1 hO => ?_)
      obtain ⟨rfl, hr⟩ := hO
      exact ⟨trivial, rfl, hr⟩
    refine blk kX5_dead_15 ?_
    refine br_c (fun c2 => ?_) (fun c2 => ?_)
    · exact bad (fun q => Int32.not_lt.mpr q.1 c2)
    · refine blk kX5_dead_19 ?_
      refine br_c (fun c3 => ?_) (fun c3 => ?_)
      · unfold oLost
        rw [if_pos c9, if_pos ⟨Int32.not_lt.mp c2, c3⟩]
        refine blk kX5_dead_32 ?_
        refine callv_g hM.1 (c_worthsBy hM t) (fun r1 h1 hO => ?_)
        obtain ⟨rfl, g, rfl, hg⟩ := hO
        refine callv_g hM.1 (c_lostBy (h := rAl h (m + 27) g) (w := wrP (gT σ) y (nI 0) s n) hM t x2 x1 (fun set hs => by rw [Al_rAl]; exact hg set hs)) (fun r1 h1 hO => ?_)
        obtain ⟨rfl, g2, rfl⟩ := hO
        refine ⟨trivial, ?_, r.mk (MK.tr (MK.rAl rfl) (MK.rAl rfl))⟩
        unfold lostT
        rw [t.1.nSt_, t.1.nHo_]
      · exact bad (fun q => c3 q.2)
  · have c1 := bI_eq c1
    have c9 : ¬ inK (gT σ) x := by unfold inK; rw [t.1.nSk_]; exact c1
    unfold oLost
    rw [if_neg c9]
    refine blk kX5_dead_8 ?_
    refine callv_g hM.1 (no_PO (k := 1) r (by decide) rfl) (fun r1 h1 hO => ?_)
    obtain ⟨rfl, hr⟩ := hO
    exact ⟨trivial, rfl, hr⟩
theorem o_mean {G : GG} {h : Hp} {m : Nat} {σ : Sg} (r : MRep m h σ) : Ct G mX5_mean 5 0 0 [.ref m] h (PO m (.long (meS (gT σ) (nHo (gT σ)) (wrP (gT σ) (nI 2) (nI 1) (nSt (gT σ)) (nHo (gT σ))) (nSk (gT σ))), σ)) nX := by
  obtain ⟨s, n, k, t⟩ := r.tw
  refine Ct.weak (c_mean r.1 t) (fun r1 h1 e => ?_)
  obtain ⟨rfl, g, g2, rfl⟩ := e
  refine ⟨?_, r.mk (MK.tr (MK.rAl rfl) (MK.rAl rfl))⟩
  rw [t.1.nSt_, t.1.nHo_, t.1.nSk_]
/-- in how many sets a corner is cut, by their odds -/
def shS (T : Tw) (c : Int32) (j s n : Nat) : Nat → Int64
  | 0 => lN 0
  | set + 1 => if bitP (cutP T (nI set) s n) c then shS T c j s n set + odS T j n set else shS T c j s n set
def oShuts (σ : Sg) (c x : Int32) : Value × Sg := if inN c 8 ∧ inK (gT σ) x then (.long (shS (gT σ) c x.toNatClampNeg (nSt (gT σ)) (nHo (gT σ)) (2 ^ nHo (gT σ))), σ) else noL σ 1
theorem o_shuts {G : GG} {h : Hp} {m : Nat} {σ : Sg} {c x : Int32} (r : MRep m h σ) : Ct G mX5_shuts 3 0 0 [.ref m, .int c, .int x] h (PO m (oShuts σ c x)) nX := by
  have hM := r.1
  obtain ⟨s, n, k, t⟩ := r.tw
  have hk := t.k4
  have hn := t.n10
  have hp := p2_le (Nat.le_refl n) hn
  refine Ct.mk ok_mX5_shuts ?_
  have bad : ¬ (inN c 8 ∧ inK (gT σ) x) → WW G mX5_shuts (rmO 3 0 0) h (PO m (oShuts σ c x)) nX 16 [.ref m, .int c, .int x, dV, dV, dV] [] h 0 0 := by
    intro q
    unfold oShuts
    rw [if_neg q]
    refine blk kX5_shuts_16 ?_
    refine callv_g hM.1 (no_PO (k := 1) r (by decide) rfl) (fun r1 h1 hO => ?_)
    obtain ⟨rfl, hr⟩ := hO
    exact ⟨trivial, rfl, hr⟩
  refine blk kX5_shuts_0 ?_
  refine callv_r hM.1 (c_isCorner hM t) ?_
  refine br_c (fun c1 => ?_) (fun c1 => ?_)
  · exact bad (fun q => bI_eq c1 q.1)
  · have c1 := bI_ne c1
    refine blk kX5_shuts_8 ?_
    refine callv_r hM.1 (c_isShake hM t) ?_
    refine brn_c (fun c2 => ?_) (fun c2 => ?_)
    · have c2 := bI_ne c2
      have c9 : inK (gT σ) x := by unfold inK; rw [t.1.nSk_]; exact c2
      obtain ⟨x1, x2⟩ := inN_ix c2 (by omega)
      unfold oShuts
      rw [if_pos ⟨c1, c9⟩, t.1.nSt_, t.1.nHo_]
      refine blk kX5_shuts_23 ?_
      refine callv_g hM.1 (c_oddsBy hM t x2 x1) (fun r1 h1 hO => ?_)
      obtain ⟨rfl, g, rfl, hg⟩ := hO
      have loop : ∀ (q i : Nat) (z : Int32) (sum : Int64), i + q = 2 ^ n → z = nI i → sum = shS (gT σ) c x.toNatClampNeg s n i → WW G mX5_shuts (rmO 3 0 0) h (PO m (.long (shS (gT σ) c x.toNatClampNeg s n (2 ^ n)), σ)) nX 33 [.ref m, .int c, .int x, .long sum, dV, .int z] [] (rAl h (m + 26) g) 0 0 := by
        intro q
        induction q with
        | zero =>
          intro i z sum hq hz hs
          have hi : i = 2 ^ n := by omega
          refine blk kX5_shuts_33 ?_
          refine ⟨_, hM.1, rfl, ?_⟩
          refine br_t (by dsimp only; rw [show Fi (rAl h (m + 26) g) 30 m = nI n from t.nH, nI_shl (by omega), hz]; exact nI_le (by omega) (by omega)) ?_
          refine blk kX5_shuts_74 ?_
          exact ⟨trivial, by rw [hs, hi], r.mk (MK.rAl rfl)⟩
        | succ q ih =>
          intro i z sum hq hz hs
          have hi : i < 2 ^ n := by omega
          refine blk kX5_shuts_33 ?_
          refine ⟨_, hM.1, rfl, ?_⟩
          refine br_f (by dsimp only; rw [show Fi (rAl h (m + 26) g) 30 m = nI n from t.nH, nI_shl (by omega), hz]; exact nI_ge hi (by omega)) ?_
          have nxt : ∀ s2 : Int64, s2 = shS (gT σ) c x.toNatClampNeg s n (i + 1) → WW G mX5_shuts (rmO 3 0 0) h (PO m (.long (shS (gT σ) c x.toNatClampNeg s n (2 ^ n)), σ)) nX 68 [.ref m, .int c, .int x, .long s2, dV, .int z] [] (rAl h (m + 26) g) 0 0 := by
            intro s2 h2
            refine blk kX5_shuts_68 ?_
            exact ih (i + 1) _ _ (by omega) (by rw [hz]; exact nI_1 i) h2
          refine blk kX5_shuts_44 ?_
          refine callv_r hM.1 (c_cutOf (h := rAl h (m + 26) g) hM t) ?_
          refine brn_c (fun c3 => ?_) (fun c3 => ?_)
          · refine nxt _ ?_
            rw [hz] at c3
            rw [hs]
            simp only [shS]
            rw [bitP_f c3]
            rfl
          · rw [hz] at c3
            refine blk kX5_shuts_58 ?_
            refine ⟨_, _, hM.1, rfl, hM.odds_.1, ?_⟩
            refine ⟨i, hM.odds_.2.1, hz, Nat.lt_of_lt_of_eq (by omega) hM.odds_.2.2.symm, ?_⟩
            refine nxt _ ?_
            rw [Al_rAl, hg i hi, hs]
            simp only [shS]
            rw [bitP_t c3]
            rfl
      exact loop (2 ^ n) 0 _ _ (by omega) rfl rfl
    · exact bad (fun q => bI_eq c2 (by have := q.2; unfold inK at this; rw [t.1.nSk_] at this; exact this))
