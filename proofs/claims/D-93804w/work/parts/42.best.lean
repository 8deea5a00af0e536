set_option maxRecDepth 100000
/-! a row that is judged -/
def judS (T : Tw) (c : Nat → Int32) : Nat → Option (List Nat)
  | 0 => some []
  | i + 1 => match judS T c i with
    | none => none
    | some L => if inH T (c i) ∧ (c i).toNatClampNeg ∉ L then some (L ++ [(c i).toNatClampNeg]) else none
theorem judS_no {T : Tw} {c : Nat → Int32} {i : Nat} (h : judS T c i = none) : ∀ d, judS T c (i + d) = none
  | 0 => h
  | d + 1 => by
    rw [← Nat.add_assoc]
    unfold judS
    rw [judS_no h d]
theorem judS_no' {T : Tw} {c : Nat → Int32} {i N : Nat} (h : judS T c i = none) (hi : i ≤ N) : judS T c N = none := by
  have := judS_no h (N - i)
  rw [show i + (N - i) = N by omega] at this
  exact this
def oJudge (σ : Sg) (x y : Int32) : Value × Sg := if wn σ x 1 = 0 then (if yrs y then (match judS (gT σ) (fun j => (gC σ (120 * x.toNatClampNeg + j)).toInt32) (gS σ 2 x.toNatClampNeg).toNatClampNeg with
  | some L => (.long (lossL (gT σ) L y.toNatClampNeg), σ)
  | none => noL σ 6) else noL σ 6) else noL σ (wn σ x 1)
theorem o_judge {G : GG} {h : Hp} {m : Nat} {σ : Sg} {x y : Int32} (r : MRep m h σ) : Ct G mX5_judge 5 0 0 [.ref m, .int x, .int y] h (PO m (oJudge σ x y)) nX := by
  have hM := r.1
  refine Ct.mk ok_mX5_judge ?_
  refine blk kX5_judge_0 ?_
  refine callv_r hM.1 (c_wants r) ?_
  rw [show wnt σ x (nI 1) = -(nI (wn σ x 1)) from wnt_wn]
  unfold oJudge
  refine br_c (fun c1 => ?_) (fun c1 => ?_)
  · have c1 := (wn_eq wn_lt).mp c1
    rw [if_pos c1]
    obtain ⟨d1, d2, d3⟩ := wn_ok c1 r.sok (Or.inl rfl)
    obtain ⟨x1, x2⟩ := inN_ix d1 (by decide)
    obtain ⟨s, n, k, t⟩ := r.tw
    have hn := t.n10
    have en := t.1.nHo_
    obtain ⟨N1, N2⟩ := (d3.row d2).2.ix (N := 121) (by decide)
    refine blk kX5_judge_18 ?_
    refine callv_r hM.1 (c_isYears) ?_
    refine brn_c (fun c2 => ?_) (fun c2 => ?_)
    · have c2 := bI_ne c2
      rw [if_pos c2]
      obtain ⟨y1, y2, -⟩ := yrs_ix c2
      have e2 := r.2.2.2.1 2 _ (by decide) x2
      generalize eN : (gS σ 2 x.toNatClampNeg).toNatClampNeg = N at *
      have e2 : Ai h (m + 17) x.toNatClampNeg = nI N := e2.trans N1
      generalize eb : (-(nI (wn σ x 1)) : Int32) = v3
      obtain ⟨c, hc⟩ : ∃ c : Nat → Int32, c = fun j => (gC σ (120 * x.toNatClampNeg + j)).toInt32 := ⟨_, rfl⟩
      rw [← hc]
      refine blk kX5_judge_34 ?_
      have loop : ∀ (q i : Nat) (z set : Int32) (v6 : Value) (L : List Nat) (h' : Hp), i + q = N → z = nI i → judS (gT σ) c i = some L → LOK n L → L.length = i → (∀ j, j < n → bitP set (nI j) = decide (j ∈ L)) → MK m h h' → (∀ j, j < i → Ai h' (m + 29) j = nI (L.getD j 0)) → WW G mX5_judge (rmO 5 0 0) h (PO m (match judS (gT σ) c N with | some L => (.long (lossL (gT σ) L y.toNatClampNeg), σ) | none => noL σ 6)) nX 40 [.ref m, .int x, .int y, .int v3, .int set, .int z, v6] [] h' 0 0 := by
        intro q
        induction q with
        | zero =>
          intro i z set v6 L h' hq hz hL lo hl hb hk hr
          have hi : N = i := by omega
          subst hi
          have hM := hk.MSh hM
          have e2' : Ai h' (m + 17) x.toNatClampNeg = nI N := by rw [hk.2.2.1 17 rfl]; exact e2
          have hlen := lo.len
          refine blk kX5_judge_40 ?_
          refine ⟨_, _, hM.1, rfl, hM.size_.1, ?_⟩
          refine ⟨_, _, hM.size_.2.1, Or.inl rfl, x1, Nat.lt_of_lt_of_eq (by omega) hM.size_.2.2.symm, ?_⟩
          refine br_t (by rw [hz, e2']; exact Int32.le_refl _) ?_
          have hR : RowR m (sFi h' 75 m (Ai h' (m + 17) x.toNatClampNeg)) (fun j => L.getD j 0) L.length n := ⟨by omega, by rw [Fi_sFi, e2', hl], fun j hj => ⟨lo.2 _ (getD_mem hj), hr j (by omega)⟩⟩
          have k2 : MK m h (sFi h' 75 m (Ai h' (m + 17) x.toNatClampNeg)) := hk.tr (MK.sFi rfl)
          refine blk kX5_judge_112 ?_
          refine ⟨_, _, hM.1, rfl, hM.size_.1, ?_⟩
          refine ⟨_, _, hM.size_.2.1, Or.inl rfl, x1, Nat.lt_of_lt_of_eq (by omega) hM.size_.2.2.symm, ?_⟩
          refine ⟨_, hM.1, rfl, ?_⟩
          refine callv_g hM.1 (c_planned hM (k2.MTw t) hR y1 y2) (fun r1 h1 hO => ?_)
          obtain ⟨rfl, f, -⟩ := hO
          exact ⟨trivial, by rw [hL]; rfl, by rw [hL]; exact (r.mk k2).mk (f.mk rfl rfl rfl)⟩
        | succ q ih =>
          intro i z set v6 L h' hq hz hL lo hl hb hk hr
          have hi : i < N := by omega
          have hM := hk.MSh hM
          have e2' : Ai h' (m + 17) x.toNatClampNeg = nI N := by rw [hk.2.2.1 17 rfl]; exact e2
          have hlen := lo.len
          refine blk kX5_judge_40 ?_
          refine ⟨_, _, hM.1, rfl, hM.size_.1, ?_⟩
          refine ⟨_, _, hM.size_.2.1, Or.inl rfl, x1, Nat.lt_of_lt_of_eq (by omega) hM.size_.2.2.symm, ?_⟩
          refine br_f (by rw [hz, e2']; exact nI_ge hi (by omega)) ?_
          have ec : (gC σ (120 * x.toNatClampNeg + i)).toInt32 = c i := by rw [hc]
          refine blk kX5_judge_51 ?_
          refine callv_r hM.1 (c_intAt (r.mk hk) x1 hz x2 (by omega)) ?_
          refine callv_r hM.1 (c_isHouse hM (hk.MTw t)) ?_
          rw [ec]
          have eS : judS (gT σ) c (i + 1) = if inH (gT σ) (c i) ∧ (c i).toNatClampNeg ∉ L then some (L ++ [(c i).toNatClampNeg]) else none := by
            rw [show judS (gT σ) c (i + 1) = match judS (gT σ) c i with
              | none => none
              | some L => if inH (gT σ) (c i) ∧ (c i).toNatClampNeg ∉ L then some (L ++ [(c i).toNatClampNeg]) else none from rfl, hL]
          have bad : ∀ u : Int32, ¬ (inH (gT σ) (c i) ∧ (c i).toNatClampNeg ∉ L) → WW G mX5_judge (rmO 5 0 0) h (PO m (match judS (gT σ) c N with | some L => (.long (lossL (gT σ) L y.toNatClampNeg), σ) | none => noL σ 6)) nX 80 [.ref m, .int x, .int y, .int v3, .int set, .int z, .int u] [] h' 0 0 := by
            intro u q
            rw [if_neg q] at eS
            rw [judS_no' eS (by omega)]
            refine blk kX5_judge_80 ?_
            refine callv_g hM.1 (no_PO (k := 6) (r.mk hk) (by decide) rfl) (fun r1 h1 hO => ?_)
            obtain ⟨rfl, hr⟩ := hO
            exact ⟨trivial, rfl, hr⟩
          refine br_c (fun c3 => ?_) (fun c3 => ?_)
          · exact bad _ (fun q => bI_eq c3 (by have := q.1; unfold inH at this; rw [en] at this; exact this))
          · have c3 := bI_ne c3
            obtain ⟨u1, u2⟩ := inN_ix c3 (by omega)
            have hbu := hb _ u2
            rw [← u1] at hbu
            refine blk kX5_judge_69 ?_
            refine brn_c (fun c4 => ?_) (fun c4 => ?_)
            · rw [bitP_f c4] at hbu
              have hm : (c i).toNatClampNeg ∉ L := by simpa using hbu.symm
              have hlt := lo.lt u2 hm
              have hin : inH (gT σ) (c i) := by unfold inH; rw [en]; exact c3
              rw [if_pos ⟨hin, hm⟩] at eS
              refine blk kX5_judge_88 ?_
              refine ⟨_, _, hM.1, rfl, hM.row_.1, ?_⟩
              refine ⟨i, hM.row_.2.1, hz, Nat.lt_of_lt_of_eq (by omega) hM.row_.2.2.symm, ?_⟩
              refine ih (i + 1) _ _ _ (L ++ [(c i).toNatClampNeg]) _ (by omega) (by rw [hz]; exact nI_add i 1) eS (lo.snoc u2 hm) (by simp; omega) ?_ (hk.tr (MK.sAi rfl)) ?_
              · intro j hj
                have := bit_put (x := set) (v := (c i).toNatClampNeg) (i := j) (by omega) (by omega)
                rw [← u1] at this
                refine this.trans ?_
                rw [hb j hj]
                by_cases q1 : j ∈ L
                · simp [q1]
                · by_cases q2 : (c i).toNatClampNeg = j
                  · simp [q2]
                  · have q3 : ¬ j = (c i).toNatClampNeg := fun e => q2 e.symm
                    simp [q1, q2, q3]
              · intro j hj
                rw [getD_snoc (by simp; omega)]
                by_cases e : j = i
                · subst e
                  rw [if_pos hl.symm, Ai_sAi_v]; exact u1
                · rw [Ai_sAi_i e, if_neg (by omega)]; exact hr j (by omega)
            · rw [bitP_t c4] at hbu
              have hm : (c i).toNatClampNeg ∈ L := by simpa using hbu.symm
              exact bad _ (fun q => q.2 hm)
      exact loop N 0 _ _ _ [] h (by omega) rfl rfl LOK.nil rfl (fun j hj => by rw [bit_nI (by omega)]; simp) (MK.rf m h) (fun j hj => absurd hj (Nat.not_lt_zero _))
    · have c2 := bI_eq c2
      rw [if_neg c2]
      refine blk kX5_judge_26 ?_
      refine callv_g hM.1 (no_PO (k := 6) r (by decide) rfl) (fun r1 h1 hO => ?_)
      obtain ⟨rfl, hr⟩ := hO
      exact ⟨trivial, rfl, hr⟩
  · have c1 : ¬ wn σ x 1 = 0 := fun q => c1 ((wn_eq wn_lt).mpr q)
    rw [if_neg c1]
    refine blk kX5_judge_11 ?_
    refine callv_g hM.1 (no_PO (k := wn σ x 1) r wn_lt rfl) (fun r1 h1 hO => ?_)
    obtain ⟨rfl, hr⟩ := hO
    exact ⟨trivial, rfl, hr⟩
