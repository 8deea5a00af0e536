set_option maxRecDepth 100000
theorem drwS_5 {T : Tw} : (drwS T).1 5 = T.1 5 := by
  show up1 T.1 9 (T.1 9 * nI 1103515245 + nI 12345) 5 = _
  rw [up1_ap, if_neg (by decide)]
theorem lv_age {G : GG} {h h0 : Hp} {O : Option Value → Hp → Prop} {m s n k : Nat} {B : Tw} {x lost : Int32} (hM0 : MSh m h0)
    (fin : ∀ h2 : Hp, FQ m [8, 9, 14] [] [36, 37] h0 h2 → MTw m h2 (setS (setS (agS B n) 8 ((agS B n).1 8 + lost)) 7 ((agS B n).1 7 + nI 1)) s n k → O (some (.int lost)) h2) : ∀ (q c : Nat) (z : Int32) (v4 v5 v6 v7 v8 : Value) (h' : Hp), c + q = n → z = nI c → FQ m [8, 9, 14] [] [36, 37] h0 h' → MTw m h' (agS B c) s n k → WW G mX5_lives (rmO 7 0 0) h O nX 215 [.ref m, .int x, .int lost, .int z, v4, v5, v6, v7, v8] [] h' 0 0 := by
  intro q
  induction q with
  | zero =>
    intro c z v4 v5 v6 v7 v8 h' hq hz hk hT
    have hc : n = c := by omega
    subst hc
    have hM := hk.MSh hM0
    refine blk kX5_lives_215 ?_
    refine ⟨_, hM.1, rfl, ?_⟩
    refine br_t (by rw [hz]; exact Int32.le_of_eq hT.nH) ?_
    refine blk kX5_lives_320 ?_
    refine ⟨rfl, ?_⟩
    refine ⟨_, hM.1, rfl, ?_⟩
    refine ⟨_, hM.1, rfl, ?_⟩
    refine ⟨rfl, ?_⟩
    refine ⟨_, hM.1, rfl, ?_⟩
    refine ⟨_, hM.1, rfl, ?_⟩
    have t1 := hT.setS_ (j := 8) (v := Fi h' 37 m + lost) (by decide)
    have t2 := t1.setS_ (j := 7) (v := Fi h' 36 m + nI 1) (by decide)
    refine ⟨trivial, fin _ (hk.tr ((FQ.sFi (by decide)).tr (FQ.sFi (by decide)))) ?_⟩
    rw [show Fi h' 37 m = (agS B n).1 8 from hT.gone_, show Fi h' 36 m = (agS B n).1 7 from hT.year_] at t2
    rw [show Fi h' 37 m = (agS B n).1 8 from hT.gone_]
    rw [show Fi (sFi h' 37 m ((agS B n).1 8 + lost)) 36 m = (agS B n).1 7 from (Fi_sFi_ne (by decide)).trans hT.year_]
    exact t2
  | succ q ih =>
    intro c z v4 v5 v6 v7 v8 h' hq hz hk hT
    have hc : c < n := by omega
    have hn := hT.n10
    have hM := hk.MSh hM0
    have H := hT.1.house hc
    refine blk kX5_lives_215 ?_
    refine ⟨_, hM.1, rfl, ?_⟩
    refine br_f (by rw [hz, hT.nH]; exact nI_ge hc (by omega)) ?_
    have hTp := hT.set_propped (i := c) (v := nI 0) (rgN (by decide) (by decide) (by decide))
    have Hp_ := hTp.1.house hc
    generalize eB : setA (agS B c) 12 c (nI 0) = TB at *
    have eb6 : TB.2 6 c = (agS B c).2 6 c := by rw [← eB]; exact setA_ne (by omega)
    have eb7 : TB.2 7 c = (agS B c).2 7 c := by rw [← eB]; exact setA_ne (by omega)
    have eb11 : TB.2 11 c = (agS B c).2 11 c := by rw [← eB]; exact setA_ne (by omega)
    have hTd := hTp.set_day (i := c) (v := capS (TB.2 6 c + TB.2 11 c)) (cap_rg Hp_.day_ Hp_.steps_)
    generalize eC : setA TB 6 c (capS (TB.2 6 c + TB.2 11 c)) = TC at *
    have ec7 : TC.2 7 c = TB.2 7 c := by rw [← eC]; exact setA_ne (by omega)
    have ec11 : TC.2 11 c = TB.2 11 c := by rw [← eC]; exact setA_ne (by omega)
    have Hd_ := hTd.1.house hc
    have hTn := hTd.set_night (i := c) (v := capS (TC.2 7 c + TC.2 11 c)) (cap_rg Hd_.night_ Hd_.steps_)
    have eN : agS B (c + 1) = setA TC 7 c (capS (TC.2 7 c + TC.2 11 c)) := by
      rw [ec7, ec11, eb7, eb11, ← eC, eb6, eb11, ← eB]; rfl
    rw [← eN] at hTn
    have j313 : ∀ v, v = capS (TC.2 7 c + TC.2 11 c) → WW G mX5_lives (rmO 7 0 0) h O nX 313 [.ref m, .int x, .int lost, .int z, v4, v5, v6, v7, v8] [.int v, .int z, .ref (m + 9)] (sAi (sAi h' (m + 14) c (nI 0)) (m + 8) c (capS (TB.2 6 c + TB.2 11 c))) 0 0 := by
      intro v hv
      refine blk kX5_lives_313 ?_
      refine ⟨c, hM.night_.2.1, hz, Nat.lt_of_lt_of_eq (by omega) hM.night_.2.2.symm, ?_⟩
      refine ih (c + 1) _ _ _ _ _ _ _ (by omega) (by rw [hz]; exact nI_add c 1) (hk.tr ((FQ.sAi (by decide)).tr ((FQ.sAi (by decide)).tr (FQ.sAi (by decide))))) ?_
      rw [hv]
      exact hTn
    have j271 : ∀ v, v = capS (TB.2 6 c + TB.2 11 c) → WW G mX5_lives (rmO 7 0 0) h O nX 271 [.ref m, .int x, .int lost, .int z, v4, v5, v6, v7, v8] [.int v, .int z, .ref (m + 8)] (sAi h' (m + 14) c (nI 0)) 0 0 := by
      intro v hv
      have e1 : Ai (sAi (sAi h' (m + 14) c (nI 0)) (m + 8) c v) (m + 9) c = TC.2 7 c := by rw [hv]; exact hTd.night_ hc
      have e2 : Ai (sAi (sAi h' (m + 14) c (nI 0)) (m + 8) c v) (m + 13) c = TC.2 11 c := by rw [hv]; exact hTd.steps_ hc
      refine blk kX5_lives_271 ?_
      refine ⟨c, hM.day_.2.1, hz, Nat.lt_of_lt_of_eq (by omega) hM.day_.2.2.symm, ?_⟩
      refine ⟨_, _, hM.1, rfl, hM.night_.1, ?_⟩
      refine ⟨_, _, hM.1, rfl, hM.night_.1, ?_⟩
      refine ⟨c, _, hM.night_.2.1, Or.inl rfl, hz, Nat.lt_of_lt_of_eq (by omega) hM.night_.2.2.symm, ?_⟩
      refine ⟨_, _, hM.1, rfl, hM.steps_.1, ?_⟩
      refine ⟨c, _, hM.steps_.2.1, Or.inl rfl, hz, Nat.lt_of_lt_of_eq (by omega) hM.steps_.2.2.symm, ?_⟩
      refine br_c (fun c1 => ?_) (fun c1 => ?_)
      · dsimp only at c1
        rw [e1, e2] at c1
        refine blk kX5_lives_300 ?_
        refine ⟨_, _, hM.1, rfl, hM.night_.1, ?_⟩
        refine ⟨c, _, hM.night_.2.1, Or.inl rfl, hz, Nat.lt_of_lt_of_eq (by omega) hM.night_.2.2.symm, ?_⟩
        refine ⟨_, _, hM.1, rfl, hM.steps_.1, ?_⟩
        refine ⟨c, _, hM.steps_.2.1, Or.inl rfl, hz, Nat.lt_of_lt_of_eq (by omega) hM.steps_.2.2.symm, ?_⟩
        rw [e1, e2, hv]
        exact j313 _ (if_pos c1).symm
      · dsimp only at c1
        rw [e1, e2] at c1
        refine blk kX5_lives_295 ?_
        rw [hv]
        exact j313 _ (if_neg c1).symm
    have e1 : Ai (sAi h' (m + 14) c (nI 0)) (m + 8) c = TB.2 6 c := hTp.day_ hc
    have e2 : Ai (sAi h' (m + 14) c (nI 0)) (m + 13) c = TB.2 11 c := hTp.steps_ hc
    refine blk kX5_lives_223 ?_
    refine ⟨_, _, hM.1, rfl, hM.propped_.1, ?_⟩
    refine ⟨c, hM.propped_.2.1, hz, Nat.lt_of_lt_of_eq (by omega) hM.propped_.2.2.symm, ?_⟩
    refine ⟨_, _, hM.1, rfl, hM.day_.1, ?_⟩
    refine ⟨_, _, hM.1, rfl, hM.day_.1, ?_⟩
    refine ⟨c, _, hM.day_.2.1, Or.inl rfl, hz, Nat.lt_of_lt_of_eq (by omega) hM.day_.2.2.symm, ?_⟩
    refine ⟨_, _, hM.1, rfl, hM.steps_.1, ?_⟩
    refine ⟨c, _, hM.steps_.2.1, Or.inl rfl, hz, Nat.lt_of_lt_of_eq (by omega) hM.steps_.2.2.symm, ?_⟩
    refine br_c (fun c1 => ?_) (fun c1 => ?_)
    · dsimp only at c1
      rw [e1, e2] at c1
      refine blk kX5_lives_258 ?_
      refine ⟨_, _, hM.1, rfl, hM.day_.1, ?_⟩
      refine ⟨c, _, hM.day_.2.1, Or.inl rfl, hz, Nat.lt_of_lt_of_eq (by omega) hM.day_.2.2.symm, ?_⟩
      refine ⟨_, _, hM.1, rfl, hM.steps_.1, ?_⟩
      refine ⟨c, _, hM.steps_.2.1, Or.inl rfl, hz, Nat.lt_of_lt_of_eq (by omega) hM.steps_.2.2.symm, ?_⟩
      rw [e1, e2]
      exact j271 _ (if_pos c1).symm
    · dsimp only at c1
      rw [e1, e2] at c1
      refine blk kX5_lives_253 ?_
      exact j271 _ (if_neg c1).symm
theorem c_lives {G : GG} {h : Hp} {m i : Nat} {σ : Sg} {x : Int32} (r : MRep m h σ) (hi8 : i < 8) (hx : x = nI i) (h2 : gS σ 3 i = nI 6 → Rg 0 120 (gS σ 2 i)) : Ct G mX5_lives 7 0 0 [.ref m, .int x] h (PO m (.int (livS (gT σ) (ordL σ i)).2, ((livS (gT σ) (ordL σ i)).1, σ.2))) nX := by
  have hM := r.1
  have hM0 := hM
  obtain ⟨s, n, k, t⟩ := r.tw
  have hn := t.n10
  have hk4 := t.k4
  have en := t.1.nHo_
  have ek := t.1.nSk_
  have es := t.1.nSt_
  refine Ct.mk ok_mX5_lives ?_
  obtain ⟨L, eL⟩ : ∃ L, L = ordL σ i := ⟨_, rfl⟩
  obtain ⟨T1, eT1⟩ : ∃ T1, T1 = livT (gT σ) L := ⟨_, rfl⟩
  rw [← eL]
  have eA : livA (gT σ) L = agS (shkL T1 k).1 n := by unfold livA; rw [← eT1, ek, en]
  have eV : livS (gT σ) L = (setS (setS (livA (gT σ) L) 8 ((livA (gT σ) L).1 8 + (shkL T1 k).2)) 7 ((livA (gT σ) L).1 7 + nI 1), (shkL T1 k).2) := by unfold livS; rw [← eT1, ek]
  have shakes : ∀ (q c : Nat) (z lost : Int32) (v4 v5 v6 v7 v8 : Value) (h' : Hp), c + q = k → z = nI c → lost = (shkL T1 c).2 → TK m h h' → MTw m h' (shkL T1 c).1 s n k → WW G mX5_lives (rmO 7 0 0) h (PO m (.int (livS (gT σ) L).2, ((livS (gT σ) L).1, σ.2))) nX 18 [.ref m, .int x, .int lost, .int z, v4, v5, v6, v7, v8] [] h' 0 0 := by
    intro q
    induction q with
    | zero =>
      intro c z lost v4 v5 v6 v7 v8 h' hq hz hl hk hT
      have hc : k = c := by omega
      subst hc
      have hM := hk.MSh hM0
      refine blk kX5_lives_18 ?_
      refine ⟨_, hM.1, rfl, ?_⟩
      refine br_t (by rw [hz]; exact Int32.le_of_eq hT.nK) ?_
      refine blk kX5_lives_213 ?_
      rw [hl]
      refine lv_age (B := (shkL T1 k).1) (h0 := h') hM (fun h2 f t2 => ?_) n 0 _ _ _ _ _ _ h' (by omega) rfl (FQ.rf h') hT
      refine ⟨by rw [eV], ?_⟩
      rw [eV, eA]
      exact r.tk (hk.tr (f.tk rfl rfl rfl)) t2
    | succ q ih =>
      intro c z lost v4 v5 v6 v7 v8 h' hq hz hl hk hT
      have hc : c < k := by omega
      have hM := hk.MSh hM0
      refine blk kX5_lives_18 ?_
      refine ⟨_, hM.1, rfl, ?_⟩
      refine br_f (by rw [hz, hT.nK]; exact nI_ge hc (by omega)) ?_
      have nxt : ∀ (lost : Int32) (v4 v5 v6 v7 v8 : Value) (h' : Hp), lost = (shkL T1 (c + 1)).2 → TK m h h' → MTw m h' (shkL T1 (c + 1)).1 s n k → WW G mX5_lives (rmO 7 0 0) h (PO m (.int (livS (gT σ) L).2, ((livS (gT σ) L).1, σ.2))) nX 207 [.ref m, .int x, .int lost, .int z, v4, v5, v6, v7, v8] [] h' 0 0 := by
        intro lost v4 v5 v6 v7 v8 h' hl hk hT
        refine blk kX5_lives_207 ?_
        exact ih (c + 1) _ _ _ _ _ _ _ _ (by omega) (by rw [hz]; exact nI_add c 1) hl hk hT
      have eN : shkL T1 (c + 1) = shkS (shkL T1 c).1 (shkL T1 c).2 c := rfl
      generalize shkL T1 (c + 1) = PN at *
      rw [hl] at *
      generalize shkL T1 c = P at *
      obtain ⟨T, l0⟩ := P
      have eN : PN = if drwV T (nI 1000) < T.2 2 c then shkC (drwS T) l0 c else (drwS T, l0) := eN
      have hT : MTw m h' T s n k := hT
      refine blk kX5_lives_26 ?_
      refine callv_g hM.1 (c_draw hM hT (by decide)) (fun r1 h1 hO => ?_)
      obtain ⟨rfl, hT2, f2⟩ := hO
      have k2 := hk.tr (f2.tk rfl rfl rfl)
      have hM := k2.MSh hM0
      refine ⟨_, _, hM.1, rfl, hM.chance_.1, ?_⟩
      refine ⟨c, _, hM.chance_.2.1, Or.inl rfl, hz, Nat.lt_of_lt_of_eq (by omega) hM.chance_.2.2.symm, ?_⟩
      have ech : Ai h1 (m + 4) c = T.2 2 c := hT2.chance_ hc
      refine br_c (fun c1 => ?_) (fun c1 => ?_)
      · dsimp only at c1
        rw [ech] at c1
        rw [if_pos c1] at eN
        have en2 : nHo (drwS T) = n := hT2.1.nHo_
        have es2 : nSt (drwS T) = s := hT2.1.nSt_
        generalize drwS T = U at *
        refine blk kX5_lives_45 ?_
        refine callv_g hM.1 (c_draw hM hT2 (by decide)) (fun r1 h1 hO => ?_)
        obtain ⟨rfl, hT3, f3⟩ := hO
        rename_i h9
        have k3 := k2.tr (f3.tk rfl rfl rfl)
        have hM := k3.MSh hM0
        refine ⟨_, hM.1, rfl, ?_⟩
        have e5 : Fi h1 34 m = U.1 5 := hT3.daypart_.trans drwS_5
        unfold shkC at eN
        rw [en2, es2] at eN
        have j63 : ∀ hour : Int32, hour = (if U.1 5 ≤ drwV U (nI 10) then nI 1 else nI 0) → WW G mX5_lives (rmO 7 0 0) h (PO m (.int (livS (gT σ) L).2, ((livS (gT σ) L).1, σ.2))) nX 63 [.ref m, .int x, .int l0, .int z, v4, v5, v6, v7, v8] [.int hour] h1 0 0 := by
          intro hour hh
          rw [← hh] at eN
          refine blk kX5_lives_63 ?_
          refine lv_fall (h0 := h1) (U := drwS U) hM hc hz (fun h' lost v4 v5 v6 v7 v8 f hT5 hl5 => ?_) n 0 _ _ _ h1 (by omega) rfl (FQ.rf h1) hT3 rfl
          rw [drwS_4] at hl5
          exact nxt lost v4 v5 v6 v7 v8 h' (by rw [eN]; exact hl5) (k3.tr (f.tk rfl rfl rfl)) (by rw [eN]; exact hT5)
        refine br_c (fun c2 => ?_) (fun c2 => ?_)
        · dsimp only at c2
          rw [e5] at c2
          refine blk kX5_lives_62 ?_
          exact j63 _ (if_pos c2).symm
        · dsimp only at c2
          rw [e5] at c2
          refine blk kX5_lives_58 ?_
          exact j63 _ (if_neg c2).symm
      · dsimp only at c1
        rw [ech] at c1
        rw [if_neg c1] at eN
        refine blk kX5_lives_42 ?_
        exact nxt _ _ _ _ _ _ h1 (by rw [eN]) k2 (by rw [eN]; exact hT2)
  refine blk kX5_lives_0 ?_
  refine callv_g hM.1 (c_rowBy r hi8 hx h2) (fun r1 h1 hO => ?_)
  obtain ⟨rfl, k1, hR⟩ := hO
  obtain ⟨md0, emd⟩ : ∃ v, v = Fi h1 77 m := ⟨_, rfl⟩
  rw [en, ← eL] at hR
  have hM := k1.MSh hM0
  refine ⟨_, hM.1, rfl, ?_⟩
  refine callv_g hM.1 (c_builds (at_ := 0) (md := md0) hM (FQ.MTw (FQ.sFi (m := m) (f := 76) (A := []) (L := []) (F := [76]) (by decide)) (k1.MTw t) rfl rfl) (show RowR m (sFi h1 76 m (nI 0)) (fun j => L.getD j 0) L.length n from ⟨hR.1, (Fi_sFi_ne (by decide)).trans hR.2.1, hR.2.2⟩) Fi_sFi (Nat.zero_le _) ((Fi_sFi_ne (by decide)).trans emd.symm)) (fun r1 h1 hO => ?_)
  obtain ⟨rfl, p, hp, hT2, -, -, -, f2, -⟩ := hO
  have eP : p.1 = T1 := by
    rw [hp, eT1]
    unfold livT yrS
    exact (bldS_md (R := fun j => L.getD j 0) (L.length - 0) (setS (gT σ) 6 ((gT σ).1 6 + (gT σ).1 3), 0, md0) (setS (gT σ) 6 ((gT σ).1 6 + (gT σ).1 3), 0, nI 0) rfl rfl).1
  rw [eP] at hT2
  exact shakes k 0 _ _ _ _ _ _ _ _ (by omega) rfl rfl (k1.tk.tr ((TK.sFi rfl).tr (f2.tk rfl rfl rfl))) hT2
