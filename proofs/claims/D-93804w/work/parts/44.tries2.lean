set_option maxRecDepth 100000
theorem TrR.pre {m : Nat} {h : Hp} {L : List Nat} {b : Nat} (t : TrR m h (L ++ [b])) : TrR m h L := fun i hi => by
  have := t i (by simp; omega)
  rw [getD_snoc (by simp; omega), if_neg (by omega)] at this
  exact this
theorem TrR.snoc {m b : Nat} {h : Hp} {L : List Nat} {v : Int32} (t : TrR m h L) (hv : v = nI b) : TrR m (sAi h (m + 31) L.length v) (L ++ [b]) := fun i hi => by
  rw [getD_snoc hi]
  by_cases e : i = L.length
  · rw [if_pos e, e, Ai_sAi_v]; exact hv
  · rw [if_neg e, Ai_sAi_i e]; exact t i (by simp at hi; omega)
theorem bits_snoc {set v : Int32} {L : List Nat} {b n : Nat} (hb : ∀ i, i < n → bitP set (nI i) = decide (i ∈ L)) (hn : n ≤ 10) (hbn : b < n) (hv : v = nI b) : ∀ i, i < n → bitP (set ||| (nI 1 <<< (v &&& 31))) (nI i) = decide (i ∈ L ++ [b]) := by
  intro i hi
  rw [hv]
  refine (bit_put (x := set) (v := b) (i := i) (by omega) (by omega)).trans ?_
  rw [hb i hi]
  by_cases q1 : i ∈ L
  · simp [q1]
  · by_cases q2 : b = i
    · simp [q2]
    · have q3 : ¬ i = b := fun e => q2 e.symm
      simp [q1, q2, q3]
theorem c_tries {G : GG} {m s n k N : Nat} {T : Tw} (hN : N ≤ 20) : ∀ (f : Nat) (h : Hp) (L : List Nat) (B : BB) (x y z u : Int32), MSh m h → MTw m h T s n k → LOK n L → BR m h B → TrR m h L → x = nI N → y = nI (L.length + f) → L.length + f ≤ 10 → (∀ i, i < n → bitP z (nI i) = decide (i ∈ L)) → u = nI L.length → Ct G mX5_tries (5 + f) 0 0 [.ref m, .int x, .int y, .int z, .int u] h (trO m h L (triS T N f L B)) nX
  | 0, h, L, B, x, y, z, u, hM, hT, lo, hB, tr, hx, hy, hl, hz, hu => c_tries0 hM hT lo hB tr hx hN hy hu
  | f + 1, h, L, B, x, y, z, u, hM, hT, lo, hB, tr, hx, hy, hl, hz, hu => by
    have hn := hT.n10
    have hlen := lo.len
    have hM0 := hM
    have en := hT.1.nHo_
    have ih := c_tries (G := G) (m := m) (s := s) (n := n) (k := k) (T := T) hN f
    have hblt : Nat.blt (5 + f) (5 + (f + 1)) = true := Nat.ble_eq_true_of_le (by omega)
    obtain ⟨g, hg⟩ : ∃ g : Nat → BB → BB, g = fun h B => if 0 < T.2 11 h ∨ h ∈ L then B else triS T N f (L ++ [h]) B := ⟨_, rfl⟩
    rw [show triS T N (f + 1) L B = itS g n B by rw [hg, ← en]; rfl]
    refine Ct.mk ok_mX5_tries ?_
    refine blk kX5_tries_0 ?_
    refine brn_t (by rw [hy, hu, nI_eq (by omega) (by omega)]; omega) ?_
    refine blk kX5_tries_106 ?_
    have loop : ∀ (q i : Nat) (w : Int32) (v6 v7 : Value) (h' : Hp), i + q = n → w = nI i → MK m h h' → BR m h' (itS g i B) → TrR m h' L → WW G mX5_tries (rmO (5 + (f + 1)) 0 0) h (trO m h L (itS g n B)) nX 109 [.ref m, .int x, .int y, .int z, .int u, .int w, v6, v7] [] h' 0 0 := by
      intro q
      induction q with
      | zero =>
        intro i w v6 v7 h' hq hw hk hB tr
        have hi : n = i := by omega
        subst hi
        have hM := hk.MSh hM0
        refine blk kX5_tries_109 ?_
        refine ⟨_, hM.1, rfl, ?_⟩
        refine br_t (by rw [hw]; exact Int32.le_of_eq (hk.MTw hT).nH) ?_
        refine blk kX5_tries_172 ?_
        exact ⟨trivial, rfl, hk, hB, tr⟩
      | succ q ihq =>
        intro i w v6 v7 h' hq hw hk hB tr
        have hi : i < n := by omega
        have hM := hk.MSh hM0
        have hT' := hk.MTw hT
        refine blk kX5_tries_109 ?_
        refine ⟨_, hM.1, rfl, ?_⟩
        refine br_f (by rw [hw, hT'.nH]; exact nI_ge hi (by omega)) ?_
        have nxt : ∀ (h' : Hp), MK m h h' → BR m h' (itS g (i + 1) B) → TrR m h' L → WW G mX5_tries (rmO (5 + (f + 1)) 0 0) h (trO m h L (itS g n B)) nX 166 [.ref m, .int x, .int y, .int z, .int u, .int w, v6, v7] [] h' 0 0 := by
          intro h' hk hB tr
          refine blk kX5_tries_166 ?_
          exact ihq (i + 1) _ _ _ _ (by omega) (by rw [hw]; exact nI_add i 1) hk hB tr
        have skip : (0 < T.2 11 i ∨ i ∈ L) → WW G mX5_tries (rmO (5 + (f + 1)) 0 0) h (trO m h L (itS g n B)) nX 166 [.ref m, .int x, .int y, .int z, .int u, .int w, v6, v7] [] h' 0 0 := by
          intro c
          refine nxt h' hk ?_ tr
          rw [show itS g (i + 1) B = g i (itS g i B) from rfl, hg]
          dsimp only
          rw [if_pos c, ← hg]
          exact hB
        refine blk kX5_tries_118 ?_
        refine ⟨_, _, hM.1, rfl, hM.steps_.1, ?_⟩
        refine ⟨i, _, hM.steps_.2.1, Or.inl rfl, hw, Nat.lt_of_lt_of_eq (by omega) hM.steps_.2.2.symm, ?_⟩
        refine br_c (fun c1 => ?_) (fun c1 => ?_)
        · have c1 : 0 < Ai h' (m + 13) i := c1
          rw [hT'.steps_ hi] at c1
          exact skip (Or.inl c1)
        · have c1 : ¬ 0 < Ai h' (m + 13) i := c1
          rw [hT'.steps_ hi] at c1
          have hbi := hz i hi
          rw [← hw] at hbi
          refine blk kX5_tries_128 ?_
          refine brn_c (fun c2 => ?_) (fun c2 => ?_)
          · rw [bitP_f c2] at hbi
            have hm : i ∉ L := by simpa using hbi.symm
            have hlt := lo.lt hi hm
            have k1 : MK m h (sAi h' (m + 31) L.length w) := hk.tr (MK.sAi rfl)
            refine blk kX5_tries_141 ?_
            refine ⟨_, _, hM.1, rfl, hM.tried_.1, ?_⟩
            refine ⟨L.length, hM.tried_.2.1, hu, Nat.lt_of_lt_of_eq (by omega) hM.tried_.2.2.symm, ?_⟩
            refine callv_g hM.1 (ih (sAi h' (m + 31) L.length w) (L ++ [i]) (itS g i B) x y _ _ hM (k1.MTw hT) (lo.snoc hi hm) (hB.mk_ rfl rfl (Ai_sAi_ne (by omega))) (tr.snoc hw) hx (by rw [hy]; simp; congr 1; omega) (by simp; omega) (bits_snoc hz hn hi hw) (by rw [hu]; simp; exact nI_add _ 1)) (fun r1 h1 hO => ?_) (hd := hblt)
            obtain ⟨rfl, k2, b2, t2⟩ := hO
            refine nxt _ (k1.tr k2) ?_ t2.pre
            rw [show itS g (i + 1) B = g i (itS g i B) from rfl]
            rw [show g i (itS g i B) = triS T N f (L ++ [i]) (itS g i B) by
              rw [hg]; exact if_neg (fun q => q.elim c1 hm)]
            exact b2
          · rw [bitP_t c2] at hbi
            have hm : i ∈ L := by simpa using hbi.symm
            refine blk kX5_tries_138 ?_
            exact skip (Or.inr hm)
    exact loop n 0 _ _ _ _ (by omega) rfl (MK.rf m h) hB tr
theorem c_fresh {G : GG} {h : Hp} {m s n k : Nat} {T : Tw} (hM : MSh m h) (hT : MTw m h T s n k) : Ct G mX5_fresh 0 0 0 [.ref m] h (Rv (some (.int (nI (frS T n)))) h) nX := by
  have hn := hT.n10
  refine Ct.mk ok_mX5_fresh ?_
  refine blk kX5_fresh_0 ?_
  have loop : ∀ (q i : Nat) (c z : Int32), i + q = n → z = nI i → c = nI (frS T i) → WW G mX5_fresh (rmO 0 0 0) h (Rv (some (.int (nI (frS T n)))) h) nX 4 [.ref m, .int c, .int z] [] h 0 0 := by
    intro q
    induction q with
    | zero =>
      intro i c z hq hz hc
      have hi : n = i := by omega
      subst hi
      refine blk kX5_fresh_4 ?_
      refine ⟨_, hM.1, rfl, ?_⟩
      refine br_t (by rw [hz]; exact Int32.le_of_eq hT.nH) ?_
      refine blk kX5_fresh_35 ?_
      exact ⟨trivial, by rw [hc], rfl⟩
    | succ q ih =>
      intro i c z hq hz hc
      have hi : i < n := by omega
      refine blk kX5_fresh_4 ?_
      refine ⟨_, hM.1, rfl, ?_⟩
      refine br_f (by rw [hz, hT.nH]; exact nI_ge hi (by omega)) ?_
      have nxt : ∀ v : Int32, c + v = nI (frS T (i + 1)) → WW G mX5_fresh (rmO 0 0 0) h (Rv (some (.int (nI (frS T n)))) h) nX 27 [.ref m, .int c, .int z] [.int v, .int c] h 0 0 := by
        intro v hv
        refine blk kX5_fresh_27 ?_
        exact ih (i + 1) _ _ (by omega) (by rw [hz]; exact nI_add i 1) hv
      refine blk kX5_fresh_12 ?_
      refine ⟨_, _, hM.1, rfl, hM.steps_.1, ?_⟩
      refine ⟨i, _, hM.steps_.2.1, Or.inl rfl, hz, Nat.lt_of_lt_of_eq (by omega) hM.steps_.2.2.symm, ?_⟩
      refine brn_c (fun c1 => ?_) (fun c1 => ?_)
      · have c1 : ¬ Ai h (m + 13) i = 0 := c1
        rw [hT.steps_ hi] at c1
        refine blk kX5_fresh_26 ?_
        exact nxt _ (by rw [show frS T (i + 1) = frS T i from if_neg c1, hc]; exact nI_add _ 0)
      · have c1 : Ai h (m + 13) i = 0 := c1
        rw [hT.steps_ hi] at c1
        refine blk kX5_fresh_22 ?_
        exact nxt _ (by rw [show frS T (i + 1) = frS T i + 1 from if_pos c1, hc]; exact nI_add _ 1)
  exact loop n 0 _ _ (by omega) rfl rfl
theorem c_bests {G : GG} {h : Hp} {m s n k N : Nat} {T : Tw} {x : Int32} (hM : MSh m h) (hT : MTw m h T s n k) (hx : x = nI N) (hN : N ≤ 20) (hf : frS T n ≤ 5) : Ct G mX5_bests 11 0 0 [.ref m, .int x] h (fun r h2 => r = none ∧ MK m h h2 ∧ BR m h2 (some (bestB T N))) nX := by
  refine Ct.mk ok_mX5_bests ?_
  have hblt : Nat.blt (5 + frS T n) 11 = true := Nat.ble_eq_true_of_le (by omega)
  refine blk kX5_bests_0 ?_
  refine ⟨_, hM.1, rfl, Or.inl rfl, ?_⟩
  refine callv_r hM.1 (c_fresh (h := sFi h 81 m (nI 0)) hM (FQ.MTw (FQ.sFi (m := m) (f := 81) (A := []) (L := []) (F := [81]) (by decide)) hT rfl rfl)) ?_
  refine callv_g hM.1 (c_tries (T := T) hN (frS T n) (sFi h 81 m (nI 0)) [] none _ _ _ _ hM (FQ.MTw (FQ.sFi (m := m) (f := 81) (A := []) (L := []) (F := [81]) (by decide)) hT rfl rfl) LOK.nil (show Fi (sFi h 81 m (nI 0)) 81 m = 0 from Fi_sFi) (fun i hi => absurd hi (Nat.not_lt_zero _)) hx (by simp) (by simp; omega) (fun i hi => by rw [bit_nI (by have := hT.n10; omega)]; simp) rfl) (fun r1 h1 hO => ?_) (hd := hblt)
  obtain ⟨rfl, k2, b2, -⟩ := hO
  refine ⟨trivial, rfl, (MK.sFi rfl).tr k2, ?_⟩
  rw [← bestB_is, hT.1.nHo_]
  exact b2
abbrev yF (σ : Sg) (y : Int32) : Prop := yrs y ∧ frS (gT σ) (nHo (gT σ)) ≤ 5
def oBest (σ : Sg) (y : Int32) : Value × Sg := if yF σ y then (.long (bestB (gT σ) y.toNatClampNeg).1, σ) else noL σ 6
theorem o_best {G : GG} {h : Hp} {m : Nat} {σ : Sg} {y : Int32} (r : MRep m h σ) : Ct G mX5_best 12 0 0 [.ref m, .int y] h (PO m (oBest σ y)) nX := by
  have hM := r.1
  obtain ⟨s, n, k, t⟩ := r.tw
  have hn := t.n10
  have en := t.1.nHo_
  have fl := frS_le (T := gT σ) n
  refine Ct.mk ok_mX5_best ?_
  unfold oBest
  have bad : ¬ yF σ y → WW G mX5_best (rmO 12 0 0) h (PO m (if yF σ y then (.long (bestB (gT σ) y.toNatClampNeg).1, σ) else noL σ 6)) nX 16 [.ref m, .int y] [] h 0 0 := by
    intro c
    rw [if_neg c]
    refine blk kX5_best_16 ?_
    refine callv_g hM.1 (no_PO (k := 6) r (by decide) rfl) (fun r1 h1 hO => ?_)
    obtain ⟨rfl, hr⟩ := hO
    exact ⟨trivial, rfl, hr⟩
  refine blk kX5_best_0 ?_
  refine callv_r hM.1 (c_isYears) ?_
  refine br_c (fun c1 => ?_) (fun c1 => ?_)
  · exact bad (fun q => bI_eq c1 q.1)
  · have c1 := bI_ne c1
    obtain ⟨y1, y2, -⟩ := yrs_ix c1
    refine blk kX5_best_8 ?_
    refine callv_r hM.1 (c_fresh hM t) ?_
    refine br_c (fun c2 => ?_) (fun c2 => ?_)
    · have c2 := (nI_leI (by omega) (by omega)).mp c2
      have c9 : yF σ y := ⟨c1, by rw [en]; exact c2⟩
      rw [if_pos c9]
      refine blk kX5_best_24 ?_
      refine callv_g hM.1 (c_bests hM t y1 y2 c2) (fun r1 h1 hO => ?_)
      obtain ⟨rfl, k2, b1, b2, b3⟩ := hO
      have hM := k2.MSh hM
      refine ⟨_, hM.1, rfl, ?_⟩
      exact ⟨trivial, by rw [b2], r.mk k2⟩
    · exact bad (fun q => c2 ((nI_leI (by omega) (by omega)).mpr (by rw [← en]; exact q.2)))
def oFirst (σ : Sg) (y i : Int32) : Value × Sg := if 0 ≤ i ∧ i < nI (frS (gT σ) (nHo (gT σ))) then (if yF σ y then (.int (nI ((bestB (gT σ) y.toNatClampNeg).2.getD i.toNatClampNeg 0)), σ) else noI σ 6) else noI σ 5
theorem o_first {G : GG} {h : Hp} {m : Nat} {σ : Sg} {y i : Int32} (r : MRep m h σ) : Ct G mX5_first 12 0 0 [.ref m, .int y, .int i] h (PO m (oFirst σ y i)) nX := by
  have hM := r.1
  obtain ⟨s, n, k, t⟩ := r.tw
  have hn := t.n10
  have en := t.1.nHo_
  have fl := frS_le (T := gT σ) n
  refine Ct.mk ok_mX5_first ?_
  unfold oFirst
  have bad1 : ¬ (0 ≤ i ∧ i < nI (frS (gT σ) (nHo (gT σ)))) → WW G mX5_first (rmO 12 0 0) h (PO m (if 0 ≤ i ∧ i < nI (frS (gT σ) (nHo (gT σ))) then (if yF σ y then (.int (nI ((bestB (gT σ) y.toNatClampNeg).2.getD i.toNatClampNeg 0)), σ) else noI σ 6) else noI σ 5)) nX 12 [.ref m, .int y, .int i] [] h 0 0 := by
    intro c
    rw [if_neg c]
    refine blk kX5_first_12 ?_
    refine callv_g hM.1 (no_PO (k := 5) r (by decide) rfl) (fun r1 h1 hO => ?_)
    obtain ⟨rfl, hr⟩ := hO
    exact ⟨trivial, rfl, hr⟩
  refine blk kX5_first_0 ?_
  refine br_c (fun c1 => ?_) (fun c1 => ?_)
  · exact bad1 (fun q => Int32.not_lt.mpr q.1 c1)
  · have c1 := Int32.not_lt.mp c1
    refine blk kX5_first_4 ?_
    refine callv_r hM.1 (c_fresh hM t) ?_
    refine br_c (fun c2 => ?_) (fun c2 => ?_)
    · have c2 : inN i (frS (gT σ) n) := ⟨c1, c2⟩
      obtain ⟨i1, i2⟩ := inN_ix c2 (by omega)
      rw [if_pos (by rw [en]; exact c2)]
      have bad : ¬ yF σ y → WW G mX5_first (rmO 12 0 0) h (PO m (if yF σ y then (.int (nI ((bestB (gT σ) y.toNatClampNeg).2.getD i.toNatClampNeg 0)), σ) else noI σ 6)) nX 35 [.ref m, .int y, .int i] [] h 0 0 := by
        intro c
        rw [if_neg c]
        refine blk kX5_first_35 ?_
        refine callv_g hM.1 (no_PO (k := 6) r (by decide) rfl) (fun r1 h1 hO => ?_)
        obtain ⟨rfl, hr⟩ := hO
        exact ⟨trivial, rfl, hr⟩
      refine blk kX5_first_19 ?_
      refine callv_r hM.1 (c_isYears) ?_
      refine br_c (fun c3 => ?_) (fun c3 => ?_)
      · exact bad (fun q => bI_eq c3 q.1)
      · have c3 := bI_ne c3
        obtain ⟨y1, y2, -⟩ := yrs_ix c3
        refine blk kX5_first_27 ?_
        refine callv_r hM.1 (c_fresh hM t) ?_
        refine br_c (fun c4 => ?_) (fun c4 => ?_)
        · have c4 := (nI_leI (by omega) (by omega)).mp c4
          have c9 : yF σ y := ⟨c3, by rw [en]; exact c4⟩
          rw [if_pos c9]
          refine blk kX5_first_42 ?_
          refine callv_g hM.1 (c_bests hM t y1 y2 c4) (fun r1 h1 hO => ?_)
          obtain ⟨rfl, k2, b1, b2, b3⟩ := hO
          have hM := k2.MSh hM
          refine ⟨_, _, hM.1, rfl, hM.best_.1, ?_⟩
          refine ⟨_, _, hM.best_.2.1, Or.inl rfl, i1, Nat.lt_of_lt_of_eq (by omega) hM.best_.2.2.symm, ?_⟩
          exact ⟨trivial, by rw [b3 _ (by rw [bestB_len, en]; exact i2)], r.mk k2⟩
        · exact bad (fun q => c4 ((nI_leI (by omega) (by omega)).mpr (by rw [← en]; exact q.2)))
    · exact bad1 (fun q => c2 (by rw [en] at q; exact q.2))
def oGap (σ : Sg) (x y : Int32) : Value × Sg := if wn σ x 2 = 0 then (if yF σ y then (.long (lossL (gT σ) (ordL σ x.toNatClampNeg) y.toNatClampNeg - (bestB (gT σ) y.toNatClampNeg).1), σ) else (.long (-1000000 + -(nI 6)).toInt64, rfs σ 6)) else (.long (-1000000 + -(nI (wn σ x 2))).toInt64, rfs σ (wn σ x 2))
theorem o_gap {G : GG} {h : Hp} {m : Nat} {σ : Sg} {x y : Int32} (r : MRep m h σ) : Ct G mX5_gap 12 0 0 [.ref m, .int x, .int y] h (PO m (oGap σ x y)) nX := by
  have hM := r.1
  obtain ⟨s, n, k, t⟩ := r.tw
  have hn := t.n10
  have en := t.1.nHo_
  have fl := frS_le (T := gT σ) n
  refine Ct.mk ok_mX5_gap ?_
  refine blk kX5_gap_0 ?_
  refine callv_r hM.1 (c_wants r) ?_
  rw [wnt_wn]
  unfold oGap
  refine br_c (fun c1 => ?_) (fun c1 => ?_)
  · have c1 := (wn_eq wn_lt).mp c1
    rw [if_pos c1]
    obtain ⟨d1, d2, d3⟩ := wn_ok c1 r.sok (Or.inr rfl)
    obtain ⟨x1, x2⟩ := inN_ix d1 (by decide)
    have bad : ¬ yF σ y → WW G mX5_gap (rmO 12 0 0) h (PO m (if yF σ y then (.long (lossL (gT σ) (ordL σ x.toNatClampNeg) y.toNatClampNeg - (bestB (gT σ) y.toNatClampNeg).1), σ) else (.long (-1000000 + -(nI 6)).toInt64, rfs σ 6))) nX 34 [.ref m, .int x, .int y, .int (-(nI (wn σ x 2))), dV, dV] [] h 0 0 := by
      intro c
      rw [if_neg c]
      refine blk kX5_gap_34 ?_
      refine callv_g hM.1 (noLow_PO (k := 6) r (by decide) rfl) (fun r1 h1 hO => ?_)
      obtain ⟨rfl, hr⟩ := hO
      exact ⟨trivial, rfl, hr⟩
    refine blk kX5_gap_18 ?_
    refine callv_r hM.1 (c_isYears) ?_
    refine br_c (fun c3 => ?_) (fun c3 => ?_)
    · exact bad (fun q => bI_eq c3 q.1)
    · have c3 := bI_ne c3
      obtain ⟨y1, y2, -⟩ := yrs_ix c3
      refine blk kX5_gap_26 ?_
      refine callv_r hM.1 (c_fresh hM t) ?_
      refine br_c (fun c4 => ?_) (fun c4 => ?_)
      · have c4 := (nI_leI (by omega) (by omega)).mp c4
        have c9 : yF σ y := ⟨c3, by rw [en]; exact c4⟩
        rw [if_pos c9]
        refine blk kX5_gap_42 ?_
        refine callv_g hM.1 (c_rowBy r x2 x1 (d3.rule d2).2) (fun r1 h1 hO => ?_)
        obtain ⟨rfl, k1, hR⟩ := hO
        rw [en] at hR
        have hM := k1.MSh hM
        refine callv_g hM.1 (c_planned hM (k1.MTw t) hR y1 y2) (fun r1 h1 hO => ?_)
        obtain ⟨rfl, f, -⟩ := hO
        rename_i h3
        have k3 := k1.tr (f.mk rfl rfl rfl)
        have hM := f.MSh hM
        refine callv_g hM.1 (c_bests hM (k3.MTw t) y1 y2 c4) (fun r1 h1 hO => ?_)
        obtain ⟨rfl, k4, b1, b2, b3⟩ := hO
        have hM := k4.MSh hM
        refine ⟨_, hM.1, rfl, ?_⟩
        exact ⟨trivial, by dsimp only; rw [b2]; rfl, r.mk (k3.tr k4)⟩
      · exact bad (fun q => c4 ((nI_leI (by omega) (by omega)).mpr (by rw [← en]; exact q.2)))
  · have c1 : ¬ wn σ x 2 = 0 := fun q => c1 ((wn_eq wn_lt).mpr q)
    rw [if_neg c1]
    refine blk kX5_gap_11 ?_
    refine callv_g hM.1 (noLow_PO (k := wn σ x 2) r wn_lt rfl) (fun r1 h1 hO => ?_)
    obtain ⟨rfl, hr⟩ := hO
    exact ⟨trivial, rfl, hr⟩
