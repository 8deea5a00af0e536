set_option maxRecDepth 100000
theorem and1_cases (x : Int32) : x &&& nI 1 = nI 1 ∨ x &&& nI 1 = nI 0 := by
  have h : (x &&& nI 1).toBitVec.toNat = x.toBitVec.toNat % 2 := by
    rw [i32_and, BitVec.toNat_and, nI_bv]
    exact Nat.and_one_is_mod _
  rcases Nat.mod_two_eq_zero_or_one x.toBitVec.toNat with e | e
  · right
    rw [e] at h
    apply Int32.toBitVec_inj.mp
    apply BitVec.eq_of_toNat_eq
    rw [h]; rfl
  · left
    rw [e] at h
    apply Int32.toBitVec_inj.mp
    apply BitVec.eq_of_toNat_eq
    rw [h]; rfl
theorem bit_val (x y : Int32) : (x >>> (y &&& 31)) &&& nI 1 = if bitP x y = true then nI 1 else nI 0 := by
  unfold bitP
  rcases and1_cases (x >>> (y &&& 31)) with e | e
  · rw [e]; simp
  · rw [e, if_neg (by decide)]
/-! a bound: all that are fresh have one step -/
def frL (T : Tw) : Nat → List Nat
  | 0 => []
  | i + 1 => if T.2 11 i ≤ 0 then frL T i ++ [i] else frL T i
theorem frL_ok {T : Tw} : ∀ i, LOK i (frL T i)
  | 0 => LOK.nil
  | i + 1 => by
    have h := frL_ok (T := T) i
    unfold frL
    split
    · exact (h.mono (by omega)).snoc (by omega) (fun q => by have := h.2 i q; omega)
    · exact h.mono (by omega)
theorem frL_0 {T : Tw} : ∀ i, ∀ b ∈ frL T i, T.2 11 b ≤ 0
  | 0, b, h => by cases h
  | i + 1, b, h => by
    unfold frL at h
    split at h
    · rename_i c
      rcases List.mem_append.mp h with h | h
      · exact frL_0 i b h
      · simp at h; subst h; exact c
    · exact frL_0 i b h
def bndT (T : Tw) : Tw := stpL T (frL T (nHo T))
def bndV (T : Tw) : Int64 := meS (bndT T) (nHo T) (wrP (bndT T) (nI 2) (nI 1) (nSt T) (nHo T)) (nSk T)
def stU (g : Nat → Int32) (L : List Nat) (c : Nat) : Nat → Int32 := fun i => if i ∈ L ∧ i < c then g i + nI 1 else g i
theorem stU_0 {g : Nat → Int32} {L : List Nat} : stU g L 0 = g := by funext i; unfold stU; rw [if_neg (by omega)]
theorem stU_end {g : Nat → Int32} {L : List Nat} {n : Nat} (hL : ∀ i ∈ L, i < n) : stU g L n = stF g L 0 := by
  funext i
  unfold stU stF
  by_cases e : i ∈ L
  · rw [if_pos ⟨e, hL i e⟩, if_pos ⟨e, Nat.zero_le _⟩]
  · rw [if_neg (fun q => e q.1), if_neg (fun q => e q.1)]
theorem stU_s {g : Nat → Int32} {L : List Nat} {c : Nat} : up1 (stU g L c) c (stU g L c c + if decide (c ∈ L) = true then nI 1 else nI 0) = stU g L (c + 1) := by
  funext i
  rw [up1_ap]
  unfold stU
  by_cases e : i = c
  · subst e
    rw [if_pos rfl, if_neg (by omega)]
    by_cases e2 : i ∈ L
    · rw [if_pos (show i ∈ L ∧ i < i + 1 from ⟨e2, by omega⟩), if_pos (decide_eq_true e2)]
    · rw [if_neg (fun q : i ∈ L ∧ i < i + 1 => e2 q.1), if_neg (by simpa using e2)]; exact Int32.add_zero _
  · rw [if_neg e]
    by_cases e2 : i ∈ L ∧ i < c
    · rw [if_pos e2, if_pos ⟨e2.1, by omega⟩]
    · rw [if_neg e2, if_neg (fun q => e2 ⟨q.1, by omega⟩)]
theorem stF_s {g : Nat → Int32} {L : List Nat} {c : Nat} : up1 (stF g L c) c (stF g L c c - if decide (c ∈ L) = true then nI 1 else nI 0) = stF g L (c + 1) := by
  by_cases e2 : c ∈ L
  · rw [if_pos (decide_eq_true e2)]; exact stF_dn e2
  · rw [if_neg (by simpa using e2), ← stF_ne e2]
    funext i
    rw [up1_ap]
    by_cases e : i = c
    · rw [if_pos e, e]; exact Int32.sub_zero _
    · rw [if_neg e]
def oBound (σ : Sg) (y : Int32) : Value × Sg := if yrs y then (.long (y.toInt64 * bndV (gT σ)), σ) else noL σ 6
theorem o_bound {G : GG} {h : Hp} {m : Nat} {σ : Sg} {y : Int32} (r : MRep m h σ) : Ct G mX5_bound 6 0 0 [.ref m, .int y] h (PO m (oBound σ y)) nX := by
  have hM := r.1
  have hM0 := hM
  obtain ⟨s, n, k, t⟩ := r.tw
  have hn := t.n10
  have hg0 : ∀ i, i < n → Ai h (m + 13) i = (gT σ).2 11 i := fun i hi => t.steps_ hi
  obtain ⟨L, eL⟩ : ∃ L, L = frL (gT σ) n := ⟨_, rfl⟩
  have lo : LOK n L := by rw [eL]; exact frL_ok n
  have l2 : ∀ i ∈ L, ¬ (gT σ).2 11 i = nI 2 := fun i hi e => by have := frL_0 n i (eL ▸ hi); rw [e] at this; exact absurd this (by decide)
  have eV : bndV (gT σ) = meS (stpL (gT σ) L) n (wrP (stpL (gT σ) L) (nI 2) (nI 1) s n) k := by
    unfold bndV bndT
    rw [t.1.nHo_, t.1.nSt_, t.1.nSk_, eL]
  refine Ct.mk ok_mX5_bound ?_
  unfold oBound
  refine blk kX5_bound_0 ?_
  refine callv_r hM.1 (c_isYears) ?_
  refine brn_c (fun c1 => ?_) (fun c1 => ?_)
  · have c1 := bI_ne c1
    rw [if_pos c1]
    have down : ∀ (q i : Nat) (z set : Int32) (v : Int64) (h' : Hp), i + q = n → z = nI i → (∀ j, j < n → bitP set (nI j) = decide (j ∈ L)) → v = y.toInt64 * bndV (gT σ) → MK3 m h h' (stF (Ai h (m + 13)) L i) → WW G mX5_bound (rmO 6 0 0) h (PO m (.long (y.toInt64 * bndV (gT σ)), σ)) nX 93 [.ref m, .int y, .int set, .long v, dV, .int z] [] h' 0 0 := by
      intro q
      induction q with
      | zero =>
        intro i z set v h' hq hz hb hv x
        have hi : n = i := by omega
        subst hi
        rw [stF_end lo.2] at x
        have hk : MK m h h' := by have := x; unfold MK3 at this; rw [rAi_self] at this; exact this
        have hM := hk.MSh hM0
        refine blk kX5_bound_93 ?_
        refine ⟨_, hM.1, rfl, ?_⟩
        refine br_t (by rw [hz]; exact Int32.le_of_eq (hk.MTw t).nH) ?_
        refine blk kX5_bound_124 ?_
        exact ⟨trivial, by rw [hv], r.mk hk⟩
      | succ q ih =>
        intro i z set v h' hq hz hb hv x
        have hi : i < n := by omega
        have hM := x.MSh hM0
        refine blk kX5_bound_93 ?_
        refine ⟨_, hM.1, rfl, ?_⟩
        refine br_f (by rw [hz]; rw [show Fi h' 30 m = nI n from (x.2.1 30 rfl).trans t.nH]; exact nI_ge hi (by omega)) ?_
        refine blk kX5_bound_102 ?_
        refine ⟨_, _, hM.1, rfl, hM.steps_.1, ?_⟩
        refine ⟨i, _, hM.steps_.2.1, Or.inl rfl, hz, Nat.lt_of_lt_of_eq (by omega) hM.steps_.2.2.symm, ?_⟩
        refine ⟨i, hM.steps_.2.1, hz, Nat.lt_of_lt_of_eq (by omega) hM.steps_.2.2.symm, ?_⟩
        refine ih (i + 1) _ set v _ (by omega) (by rw [hz]; exact nI_add i 1) hb hv ?_
        have := x.set (i := i) (v := stF (Ai h (m + 13)) L i i - if decide (i ∈ L) = true then nI 1 else nI 0)
        rw [stF_s] at this
        rw [← x.at, ← hb i hi, ← hz, ← bit_val] at this
        exact this
    have mid : ∀ (set v3 v4 v5 : Int32) (h' : Hp) (w4 w5 : Value), (∀ j, j < n → bitP set (nI j) = decide (j ∈ L)) → MK3 m h h' (stF (Ai h (m + 13)) L 0) → WW G mX5_bound (rmO 6 0 0) h (PO m (.long (y.toInt64 * bndV (gT σ)), σ)) nX 82 [.ref m, .int y, .int set, .int v3, w4, w5] [] h' 0 0 := by
      intro set v3 v4 v5 h' w4 w5 hb x
      have hM := x.MSh hM0
      refine blk kX5_bound_82 ?_
      refine callv_g hM.1 (c_meanOf hM (x.MTw t l2 (stF_st hg0))) (fun r1 h1 hO => ?_)
      obtain ⟨rfl, g, g', rfl⟩ := hO
      exact down n 0 _ _ _ _ (by omega) rfl hb (by dsimp only; rw [eV]) (x.tr ((MK.rAl rfl).tr (MK.rAl rfl)))
    have up_ : ∀ (q i : Nat) (z set : Int32) (w4 w5 : Value) (h' : Hp), i + q = n → z = nI i → (∀ j, j < n → bitP set (nI j) = decide (j ∈ L)) → MK3 m h h' (stU (Ai h (m + 13)) L i) → WW G mX5_bound (rmO 6 0 0) h (PO m (.long (y.toInt64 * bndV (gT σ)), σ)) nX 54 [.ref m, .int y, .int set, .int z, w4, w5] [] h' 0 0 := by
      intro q
      induction q with
      | zero =>
        intro i z set w4 w5 h' hq hz hb x
        have hi : n = i := by omega
        subst hi
        rw [stU_end lo.2] at x
        have hM := x.MSh hM0
        refine blk kX5_bound_54 ?_
        refine ⟨_, hM.1, rfl, ?_⟩
        refine br_t (by rw [hz]; exact Int32.le_of_eq ((x.2.1 30 rfl).trans t.nH)) ?_
        exact mid set z 0 0 h' w4 w5 hb x
      | succ q ih =>
        intro i z set w4 w5 h' hq hz hb x
        have hi : i < n := by omega
        have hM := x.MSh hM0
        refine blk kX5_bound_54 ?_
        refine ⟨_, hM.1, rfl, ?_⟩
        refine br_f (by rw [hz]; rw [show Fi h' 30 m = nI n from (x.2.1 30 rfl).trans t.nH]; exact nI_ge hi (by omega)) ?_
        refine blk kX5_bound_62 ?_
        refine ⟨_, _, hM.1, rfl, hM.steps_.1, ?_⟩
        refine ⟨i, _, hM.steps_.2.1, Or.inl rfl, hz, Nat.lt_of_lt_of_eq (by omega) hM.steps_.2.2.symm, ?_⟩
        refine ⟨i, hM.steps_.2.1, hz, Nat.lt_of_lt_of_eq (by omega) hM.steps_.2.2.symm, ?_⟩
        refine ih (i + 1) _ set _ _ _ (by omega) (by rw [hz]; exact nI_add i 1) hb ?_
        have := x.set (i := i) (v := stU (Ai h (m + 13)) L i i + if decide (i ∈ L) = true then nI 1 else nI 0)
        rw [stU_s] at this
        rw [← x.at, ← hb i hi, ← hz, ← bit_val] at this
        exact this
    have first : ∀ (q i : Nat) (z set : Int32) (w4 w5 : Value), i + q = n → z = nI i → (∀ j, j < n → bitP set (nI j) = decide (j ∈ frL (gT σ) i)) → WW G mX5_bound (rmO 6 0 0) h (PO m (.long (y.toInt64 * bndV (gT σ)), σ)) nX 20 [.ref m, .int y, .int set, .int z, w4, w5] [] h 0 0 := by
      intro q
      induction q with
      | zero =>
        intro i z set w4 w5 hq hz hb
        have hi : n = i := by omega
        subst hi
        rw [← eL] at hb
        refine blk kX5_bound_20 ?_
        refine ⟨_, hM.1, rfl, ?_⟩
        refine br_t (by rw [hz]; exact Int32.le_of_eq t.nH) ?_
        refine blk kX5_bound_52 ?_
        refine up_ n 0 _ set _ _ _ (by omega) rfl hb ?_
        rw [stU_0]
        exact MK3.rf
      | succ q ih =>
        intro i z set w4 w5 hq hz hb
        have hi : i < n := by omega
        refine blk kX5_bound_20 ?_
        refine ⟨_, hM.1, rfl, ?_⟩
        refine br_f (by rw [hz, t.nH]; exact nI_ge hi (by omega)) ?_
        have nxt : ∀ set : Int32, (∀ j, j < n → bitP set (nI j) = decide (j ∈ frL (gT σ) (i + 1))) → WW G mX5_bound (rmO 6 0 0) h (PO m (.long (y.toInt64 * bndV (gT σ)), σ)) nX 46 [.ref m, .int y, .int set, .int z, w4, w5] [] h 0 0 := by
          intro set hb
          refine blk kX5_bound_46 ?_
          exact ih (i + 1) _ _ _ _ (by omega) (by rw [hz]; exact nI_add i 1) hb
        refine blk kX5_bound_28 ?_
        refine ⟨_, _, hM.1, rfl, hM.steps_.1, ?_⟩
        refine ⟨i, _, hM.steps_.2.1, Or.inl rfl, hz, Nat.lt_of_lt_of_eq (by omega) hM.steps_.2.2.symm, ?_⟩
        refine br_c (fun c2 => ?_) (fun c2 => ?_)
        · have c2 : Ai h (m + 13) i ≤ 0 := c2
          rw [t.steps_ hi] at c2
          refine blk kX5_bound_40 ?_
          refine nxt _ ?_
          rw [show frL (gT σ) (i + 1) = frL (gT σ) i ++ [i] from if_pos c2]
          exact bits_snoc hb hn hi hz
        · have c2 : ¬ Ai h (m + 13) i ≤ 0 := c2
          rw [t.steps_ hi] at c2
          refine blk kX5_bound_37 ?_
          refine nxt _ ?_
          rw [show frL (gT σ) (i + 1) = frL (gT σ) i from if_neg c2]
          exact hb
    refine blk kX5_bound_16 ?_
    exact first n 0 _ _ _ _ (by omega) rfl (fun j hj => by rw [bit_nI (by omega)]; simp [frL])
  · have c1 := bI_eq c1
    rw [if_neg c1]
    refine blk kX5_bound_8 ?_
    refine callv_g hM.1 (no_PO (k := 6) r (by decide) rfl) (fun r1 h1 hO => ?_)
    obtain ⟨rfl, hr⟩ := hO
    exact ⟨trivial, rfl, hr⟩
/-! the rule whose plan costs least -/
def anyS (σ : Sg) : Nat → Bool
  | 0 => false
  | i + 1 => anyS σ i || decide (gS σ 0 i = nI 2)
def hdS (σ : Sg) (N : Nat) : Nat → Int32 × Int64
  | 0 => (-1, lN 0)
  | i + 1 => if gS σ 0 i = nI 2 then (if (hdS σ N i).1 = -1 ∨ lossL (gT σ) (ordL σ i) N < (hdS σ N i).2 then (nI i, lossL (gT σ) (ordL σ i) N) else hdS σ N i) else hdS σ N i
def oHead (σ : Sg) (y : Int32) : Value × Sg := if anyS σ 8 = true then (if yrs y then (.int (hdS σ y.toNatClampNeg 8).1, σ) else noI σ 6) else noI σ 5
theorem o_head {G : GG} {h : Hp} {m : Nat} {σ : Sg} {y : Int32} (r : MRep m h σ) : Ct G mX5_head 7 0 0 [.ref m, .int y] h (PO m (oHead σ y)) nX := by
  have hM := r.1
  have hM0 := hM
  have e0 : ∀ i, i < 8 → Ai h (m + 15) i = gS σ 0 i := fun i hi => r.2.2.2.1 0 i (by decide) hi
  refine Ct.mk ok_mX5_head ?_
  refine blk kX5_head_0 ?_
  have loop : ∀ (q i : Nat) (z b : Int32), i + q = 8 → z = nI i → b = bI (anyS σ i = true) → WW G mX5_head (rmO 7 0 0) h (PO m (oHead σ y)) nX 10 [.ref m, .int y, .int (-1), .long (lN 0), dV, .int b, .int z, dV, dV] [] h 0 0 := by
    intro q
    induction q with
    | zero =>
      intro i z b hq hz hb
      have hi : i = 8 := by omega
      subst hi
      refine blk kX5_head_10 ?_
      refine br_t (by rw [hz]; decide) ?_
      refine blk kX5_head_46 ?_
      unfold oHead
      refine brn_c (fun c1 => ?_) (fun c1 => ?_)
      · have c1 : ¬ b = 0 := c1
        rw [hb] at c1
        have c1 := bI_ne c1
        rw [if_pos c1]
        refine blk kX5_head_58 ?_
        refine callv_r hM.1 (c_isYears) ?_
        refine brn_c (fun c2 => ?_) (fun c2 => ?_)
        · have c2 := bI_ne c2
          rw [if_pos c2]
          obtain ⟨y1, y2, -⟩ := yrs_ix c2
          generalize y.toNatClampNeg = N at *
          refine blk kX5_head_73 ?_
          have main : ∀ (q i : Nat) (z be : Int32) (le : Int64) (v7 v8 : Value) (h' : Hp), i + q = 8 → z = nI i → (be, le) = hdS σ N i → MK m h h' → WW G mX5_head (rmO 7 0 0) h (PO m (.int (hdS σ N 8).1, σ)) nX 76 [.ref m, .int y, .int be, .long le, dV, .int b, .int z, v7, v8] [] h' 0 0 := by
            intro q
            induction q with
            | zero =>
              intro i z be le v7 v8 h' hq hz hs hk
              have hi : i = 8 := by omega
              subst hi
              refine blk kX5_head_76 ?_
              refine br_t (by rw [hz]; decide) ?_
              refine blk kX5_head_137 ?_
              exact ⟨trivial, by rw [← hs], r.mk hk⟩
            | succ q ih =>
              intro i z be le v7 v8 h' hq hz hs hk
              have hi : i < 8 := by omega
              have hM := hk.MSh hM0
              have e0' : Ai h' (m + 15) i = gS σ 0 i := by rw [hk.2.2.1 15 rfl]; exact e0 i hi
              refine blk kX5_head_76 ?_
              refine br_f (by rw [hz]; exact nI_ge hi (by decide)) ?_
              have nxt : ∀ (be : Int32) (le : Int64) (v7 v8 : Value) (h' : Hp), (be, le) = hdS σ N (i + 1) → MK m h h' → WW G mX5_head (rmO 7 0 0) h (PO m (.int (hdS σ N 8).1, σ)) nX 131 [.ref m, .int y, .int be, .long le, dV, .int b, .int z, v7, v8] [] h' 0 0 := by
                intro be le v7 v8 h' hs hk
                refine blk kX5_head_131 ?_
                exact ih (i + 1) _ _ _ _ _ _ (by omega) (by rw [hz]; exact nI_add i 1) hs hk
              refine blk kX5_head_83 ?_
              refine ⟨_, _, hM.1, rfl, hM.held_.1, ?_⟩
              refine ⟨i, _, hM.held_.2.1, Or.inl rfl, hz, Nat.lt_of_lt_of_eq (by omega) hM.held_.2.2.symm, ?_⟩
              refine br_c (fun c3 => ?_) (fun c3 => ?_)
              · have c3 : Ai h' (m + 15) i = nI 2 := c3
                rw [e0'] at c3
                obtain ⟨d1, d2⟩ := (r.sok i hi).rule c3
                refine blk kX5_head_97 ?_
                refine callv_g hM.1 (c_rowBy (r.mk hk) hi hz d2) (fun r1 h1 hO => ?_)
                obtain ⟨rfl, k1, hR⟩ := hO
                have hM := k1.MSh hM
                obtain ⟨s, n, k, t⟩ := ((r.mk hk).mk k1).tw
                rw [t.1.nHo_] at hR
                refine callv_g hM.1 (c_planned hM t hR y1 y2) (fun r1 h1 hO => ?_)
                obtain ⟨rfl, f, -⟩ := hO
                have k3 : MK m h h1 := (hk.tr k1).tr (f.mk rfl rfl rfl)
                have eh : hdS σ N (i + 1) = if (hdS σ N i).1 = -1 ∨ lossL (gT σ) (ordL σ i) N < (hdS σ N i).2 then (nI i, lossL (gT σ) (ordL σ i) N) else hdS σ N i := if_pos c3
                have set_ : ((hdS σ N i).1 = -1 ∨ lossL (gT σ) (ordL σ i) N < (hdS σ N i).2) → WW G mX5_head (rmO 7 0 0) h (PO m (.int (hdS σ N 8).1, σ)) nX 125 [.ref m, .int y, .int be, .long le, dV, .int b, .int z, .long (lossL (gT σ) (ordL σ i) N), dV] [] h1 0 0 := by
                  intro c
                  rw [if_pos c] at eh
                  refine blk kX5_head_125 ?_
                  exact nxt _ _ _ _ _ (by rw [eh, hz]) k3
                refine br_c (fun c4 => ?_) (fun c4 => ?_)
                · have c4 : be = -1 := c4
                  exact set_ (Or.inl (by rw [← hs]; exact c4))
                · have c4 : ¬ be = -1 := c4
                  refine blk kX5_head_115 ?_
                  refine br_c (fun c5 => ?_) (fun c5 => ?_)
                  · exact set_ (Or.inr (by rw [← hs]; exact (lg_cmp_lt _ _).mp c5))
                  · refine blk kX5_head_122 ?_
                    refine nxt _ _ _ _ _ ?_ k3
                    rw [eh, if_neg, hs]
                    rw [← hs]
                    rintro (q | q)
                    · exact c4 q
                    · exact c5 ((lg_cmp_lt _ _).mpr q)
              · have c3 : ¬ Ai h' (m + 15) i = nI 2 := c3
                rw [e0'] at c3
                refine blk kX5_head_94 ?_
                exact nxt _ _ _ _ _ (by rw [show hdS σ N (i + 1) = hdS σ N i from if_neg c3]; exact hs) hk
          exact main 8 0 _ _ _ _ _ h (by omega) rfl rfl (MK.rf m h)
        · have c2 := bI_eq c2
          rw [if_neg c2]
          refine blk kX5_head_66 ?_
          refine callv_g hM.1 (no_PO (k := 6) r (by decide) rfl) (fun r1 h1 hO => ?_)
          obtain ⟨rfl, hr⟩ := hO
          exact ⟨trivial, rfl, hr⟩
      · have c1 : b = 0 := c1
        rw [hb] at c1
        have c1 := bI_eq c1
        rw [if_neg c1]
        refine blk kX5_head_51 ?_
        refine callv_g hM.1 (no_PO (k := 5) r (by decide) rfl) (fun r1 h1 hO => ?_)
        obtain ⟨rfl, hr⟩ := hO
        exact ⟨trivial, rfl, hr⟩
    | succ q ih =>
      intro i z b hq hz hb
      have hi : i < 8 := by omega
      refine blk kX5_head_10 ?_
      refine br_f (by rw [hz]; exact nI_ge hi (by decide)) ?_
      have nxt : ∀ v : Int32, v = bI (anyS σ (i + 1) = true) → WW G mX5_head (rmO 7 0 0) h (PO m (oHead σ y)) nX 38 [.ref m, .int y, .int (-1), .long (lN 0), dV, .int b, .int z, dV, dV] [.int v] h 0 0 := by
        intro v hv
        refine blk kX5_head_38 ?_
        exact ih (i + 1) _ _ (by omega) (by rw [hz]; exact nI_add i 1) hv
      refine blk kX5_head_17 ?_
      refine brn_c (fun c1 => ?_) (fun c1 => ?_)
      · have c1 : ¬ b = 0 := c1
        rw [hb] at c1
        have c1 := bI_ne c1
        refine blk kX5_head_33 ?_
        exact nxt _ (by rw [bI_t]; unfold anyS; rw [c1]; rfl)
      · have c1 : b = 0 := c1
        rw [hb] at c1
        have c1 := bI_eq c1
        refine blk kX5_head_22 ?_
        refine ⟨_, _, hM.1, rfl, hM.held_.1, ?_⟩
        refine ⟨i, _, hM.held_.2.1, Or.inl rfl, hz, Nat.lt_of_lt_of_eq (by omega) hM.held_.2.2.symm, ?_⟩
        refine brn_c (fun c2 => ?_) (fun c2 => ?_)
        · have c2 : ¬ Ai h (m + 15) i = nI 2 := c2
          rw [e0 i hi] at c2
          refine blk kX5_head_37 ?_
          exact nxt _ (by rw [bI_f]; unfold anyS; simp [c1, c2])
        · have c2 : Ai h (m + 15) i = nI 2 := c2
          rw [e0 i hi] at c2
          refine blk kX5_head_33 ?_
          exact nxt _ (by rw [bI_t]; unfold anyS; simp [c2])
  exact loop 8 0 _ _ (by omega) rfl (by rw [bI_f]; simp [anyS])
