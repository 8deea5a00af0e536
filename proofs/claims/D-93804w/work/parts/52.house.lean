set_option maxRecDepth 100000
def HPt (m n : Nat) (F : Nat → Int32) (h : Hp) (j : Nat) (h' : Hp) : Prop := FQ m [6, 7, 8, 9, 10, 11, 12, 13, 14] [] [] h h' ∧ (∀ r, 4 ≤ r → r < j → Ai h' (m + (2 + r)) = up1 (Ai h (m + (2 + r))) n (F r)) ∧ ∀ r, j ≤ r → r < 13 → Ai h' (m + (2 + r)) = Ai h (m + (2 + r))
theorem HPt.step {m n j : Nat} {F : Nat → Int32} {h h' : Hp} (p : HPt m n F h j h') (h4 : 4 ≤ j) (h13 : j < 13) : HPt m n F h (j + 1) (sAi h' (m + (2 + j)) n (F j)) := by
  refine ⟨p.1.tr (FQ.sAi ?_), fun r hr hj => ?_, fun r hr hj => ?_⟩
  · rcases (by omega : j = 4 ∨ j = 5 ∨ j = 6 ∨ j = 7 ∨ j = 8 ∨ j = 9 ∨ j = 10 ∨ j = 11 ∨ j = 12) with q | q | q | q | q | q | q | q | q <;> subst q <;> decide
  · by_cases e : r = j
    · subst e
      rw [sAi_r, Ai_rAi, p.2.2 r (Nat.le_refl _) h13]
    · rw [Ai_sAi_ne (by omega)]; exact p.2.1 r hr (by omega)
  · rw [Ai_sAi_ne (by omega)]; exact p.2.2 r (by omega) hj
theorem MTw.addH {m : Nat} {h h' : Hp} {T : Tw} {s n k : Nat} {c w d e q : Int32} (t : MTw m h T s n k) (p : HPt m n (hoF c w d e q) h 13 h') (hn : n < 10) (hc : Rg 0 7 c) (hw : Rg 0 9 w) (hd : Rg 0 99 d) (he : Rg 0 99 e) (hq : Rg 1 99 q) : MTw m (sFi h' 30 m (nI (n + 1))) (adH T n c w d e q) s (n + 1) k := by
  refine ⟨t.1.addH hn hc hw hd he hq, fun j hj => ?_, fun r i hr hi => ?_⟩
  · show up2 (Fi h') 30 m (nI (n + 1)) (29 + j) m = up1 T.1 1 (nI (n + 1)) j
    rw [up2_ap, up1_ap]
    by_cases e : j = 1
    · rw [if_pos ⟨by omega, rfl⟩, if_pos e]
    · rw [if_neg (by omega), if_neg e, p.1.2.1 _ (by simp)]; exact t.2.1 j hj
  · show Ai h' (m + (2 + r)) i = if i = n ∧ 4 ≤ r then hoF c w d e q r else T.2 r i
    by_cases h4 : 4 ≤ r
    · rw [p.2.1 r h4 hr, up1_ap]
      by_cases e9 : i = n
      · rw [if_pos e9, if_pos ⟨e9, h4⟩]
      · rw [if_neg e9, if_neg (fun z => e9 z.1)]
        refine t.2.2 r i hr ?_
        unfold cn at *
        rw [if_neg (by omega), if_neg (by omega)] at hi ⊢
        omega
    · rw [if_neg (fun z => h4 z.2), p.1.2.2.1 (2 + r) (by simp; omega)]
      refine t.2.2 r i hr ?_
      unfold cn at *
      by_cases h2 : r < 2
      · rw [if_pos h2] at hi ⊢; exact hi
      · rw [if_neg h2, if_pos (by omega)] at hi ⊢; exact hi
theorem c_comes {G : GG} {h : Hp} {m s n k : Nat} {T : Tw} {c w d e q : Int32} (hM : MSh m h) (t : MTw m h T s n k) (hn : n < 10) (hc : Rg 0 7 c) (hw : Rg 0 9 w) (hd : Rg 0 99 d) (he : Rg 0 99 e) (hq : Rg 1 99 q) : Ct G mX5_comes 0 0 0 [.ref m, .int c, .int w, .int d, .int e, .int q] h (fun r h2 => r = some (.int (nI n)) ∧ FQ m [6, 7, 8, 9, 10, 11, 12, 13, 14] [] [30] h h2 ∧ MTw m h2 (adH T n c w d e q) s (n + 1) k) nX := by
  have hM0 := hM
  have eN := t.nH
  refine Ct.mk ok_mX5_comes ?_
  have w82 : ∀ h', HPt m n (hoF c w d e q) h 12 h' → WW G mX5_comes (rmO 0 0 0) h (fun r h2 => r = some (.int (nI n)) ∧ FQ m [6, 7, 8, 9, 10, 11, 12, 13, 14] [] [30] h h2 ∧ MTw m h2 (adH T n c w d e q) s (n + 1) k) nX 82 [.ref m, .int c, .int w, .int d, .int e, .int q] [] h' 0 0 := by
    intro h' p
    have hM := p.1.MSh hM0
    have e1 : Fi h' 30 m = nI n := (p.1.2.1 30 (by decide)).trans eN
    refine blk kX5_comes_82 ?_
    refine ⟨_, _, hM.1, rfl, hM.propped_.1, ?_⟩
    refine ⟨_, hM.1, rfl, ?_⟩
    refine ⟨n, hM.propped_.2.1, e1, Nat.lt_of_lt_of_eq (by omega) hM.propped_.2.2.symm, ?_⟩
    refine ⟨rfl, ?_⟩
    refine ⟨_, hM.1, rfl, ?_⟩
    refine ⟨_, hM.1, rfl, ?_⟩
    have p2 := p.step (by decide) (by decide)
    rw [show Fi (sAi h' (m + 14) n (nI 0)) 30 m = nI n from e1]
    refine ⟨trivial, rfl, (p2.1.up rfl rfl rfl).tr (FQ.sFi (by decide)), ?_⟩
    dsimp only
    rw [nI_add]
    exact t.addH p2 hn hc hw hd he hq
  have w62 : ∀ h', HPt m n (hoF c w d e q) h 10 h' → WW G mX5_comes (rmO 0 0 0) h (fun r h2 => r = some (.int (nI n)) ∧ FQ m [6, 7, 8, 9, 10, 11, 12, 13, 14] [] [30] h h2 ∧ MTw m h2 (adH T n c w d e q) s (n + 1) k) nX 62 [.ref m, .int c, .int w, .int d, .int e, .int q] [] h' 0 0 := by
    intro h' p
    have hM := p.1.MSh hM0
    have e1 : Fi h' 30 m = nI n := (p.1.2.1 30 (by decide)).trans eN
    refine blk kX5_comes_62 ?_
    refine ⟨_, _, hM.1, rfl, hM.next_.1, ?_⟩
    refine ⟨_, hM.1, rfl, ?_⟩
    refine ⟨n, hM.next_.2.1, e1, Nat.lt_of_lt_of_eq (by omega) hM.next_.2.2.symm, ?_⟩
    refine ⟨_, _, hM.1, rfl, hM.steps_.1, ?_⟩
    refine ⟨_, hM.1, rfl, ?_⟩
    refine ⟨n, hM.steps_.2.1, e1, Nat.lt_of_lt_of_eq (by omega) hM.steps_.2.2.symm, ?_⟩
    exact w82 _ ((p.step (by decide) (by decide)).step (by decide) (by decide))
  have w41 : ∀ h', HPt m n (hoF c w d e q) h 8 h' → WW G mX5_comes (rmO 0 0 0) h (fun r h2 => r = some (.int (nI n)) ∧ FQ m [6, 7, 8, 9, 10, 11, 12, 13, 14] [] [30] h h2 ∧ MTw m h2 (adH T n c w d e q) s (n + 1) k) nX 41 [.ref m, .int c, .int w, .int d, .int e, .int q] [] h' 0 0 := by
    intro h' p
    have hM := p.1.MSh hM0
    have e1 : Fi h' 30 m = nI n := (p.1.2.1 30 (by decide)).trans eN
    refine blk kX5_comes_41 ?_
    refine ⟨_, _, hM.1, rfl, hM.cost_.1, ?_⟩
    refine ⟨_, hM.1, rfl, ?_⟩
    refine ⟨n, hM.cost_.2.1, e1, Nat.lt_of_lt_of_eq (by omega) hM.cost_.2.2.symm, ?_⟩
    refine ⟨_, _, hM.1, rfl, hM.front_.1, ?_⟩
    refine ⟨_, hM.1, rfl, ?_⟩
    refine ⟨n, hM.front_.2.1, e1, Nat.lt_of_lt_of_eq (by omega) hM.front_.2.2.symm, ?_⟩
    exact w62 _ ((p.step (by decide) (by decide)).step (by decide) (by decide))
  have w20 : ∀ h', HPt m n (hoF c w d e q) h 6 h' → WW G mX5_comes (rmO 0 0 0) h (fun r h2 => r = some (.int (nI n)) ∧ FQ m [6, 7, 8, 9, 10, 11, 12, 13, 14] [] [30] h h2 ∧ MTw m h2 (adH T n c w d e q) s (n + 1) k) nX 20 [.ref m, .int c, .int w, .int d, .int e, .int q] [] h' 0 0 := by
    intro h' p
    have hM := p.1.MSh hM0
    have e1 : Fi h' 30 m = nI n := (p.1.2.1 30 (by decide)).trans eN
    refine blk kX5_comes_20 ?_
    refine ⟨_, _, hM.1, rfl, hM.day_.1, ?_⟩
    refine ⟨_, hM.1, rfl, ?_⟩
    refine ⟨n, hM.day_.2.1, e1, Nat.lt_of_lt_of_eq (by omega) hM.day_.2.2.symm, ?_⟩
    refine ⟨_, _, hM.1, rfl, hM.night_.1, ?_⟩
    refine ⟨_, hM.1, rfl, ?_⟩
    refine ⟨n, hM.night_.2.1, e1, Nat.lt_of_lt_of_eq (by omega) hM.night_.2.2.symm, ?_⟩
    exact w41 _ ((p.step (by decide) (by decide)).step (by decide) (by decide))
  have p0 : HPt m n (hoF c w d e q) h 4 h := ⟨FQ.rf h, fun r h1 h2 => by omega, fun _ _ _ => rfl⟩
  refine blk kX5_comes_0 ?_
  refine ⟨_, _, hM.1, rfl, hM.corner_.1, ?_⟩
  refine ⟨_, hM.1, rfl, ?_⟩
  refine ⟨n, hM.corner_.2.1, eN, Nat.lt_of_lt_of_eq (by omega) hM.corner_.2.2.symm, ?_⟩
  refine ⟨_, _, hM.1, rfl, hM.weak_.1, ?_⟩
  refine ⟨_, hM.1, rfl, ?_⟩
  refine ⟨n, hM.weak_.2.1, eN, Nat.lt_of_lt_of_eq (by omega) hM.weak_.2.2.symm, ?_⟩
  exact w20 _ ((p0.step (by decide) (by decide)).step (by decide) (by decide))
/-! may a house be so -/
abbrev soP (w d n k : Int32) : Prop := (0 ≤ w ∧ w ≤ nI 9) ∧ (0 ≤ d ∧ d ≤ nI 99) ∧ (0 ≤ n ∧ n ≤ nI 99) ∧ (nI 1 ≤ k ∧ k ≤ nI 99)
theorem c_isSo {G : GG} {h : Hp} {m : Nat} {w d n k : Int32} : Ct G mX5_isSo 0 0 0 [.ref m, .int w, .int d, .int n, .int k] h (Rv (some (.int (bI (soP w d n k)))) h) nX := by
  refine Ct.mk ok_mX5_isSo ?_
  have bad : ¬ soP w d n k → WW G mX5_isSo (rmO 0 0 0) h (Rv (some (.int (bI (soP w d n k)))) h) nX 47 [.ref m, .int w, .int d, .int n, .int k] [] h 0 0 := by
    intro c
    refine blk kX5_isSo_47 ?_
    refine blk kX5_isSo_48 ?_
    exact ⟨Or.inl rfl, by rw [bI_f c], rfl⟩
  refine blk kX5_isSo_0 ?_
  refine br_c (fun c => bad (fun q => Int32.not_lt.mpr q.1.1 c)) (fun c1 => ?_)
  refine blk kX5_isSo_4 ?_
  refine br_c (fun c => bad (fun q => Int32.not_lt.mpr q.1.2 c)) (fun c2 => ?_)
  refine blk kX5_isSo_10 ?_
  refine br_c (fun c => bad (fun q => Int32.not_lt.mpr q.2.1.1 c)) (fun c3 => ?_)
  refine blk kX5_isSo_14 ?_
  refine br_c (fun c => bad (fun q => Int32.not_lt.mpr q.2.1.2 c)) (fun c4 => ?_)
  refine blk kX5_isSo_20 ?_
  refine br_c (fun c => bad (fun q => Int32.not_lt.mpr q.2.2.1.1 c)) (fun c5 => ?_)
  refine blk kX5_isSo_24 ?_
  refine br_c (fun c => bad (fun q => Int32.not_lt.mpr q.2.2.1.2 c)) (fun c6 => ?_)
  refine blk kX5_isSo_30 ?_
  refine br_c (fun c => bad (fun q => Int32.not_lt.mpr q.2.2.2.1 c)) (fun c7 => ?_)
  refine blk kX5_isSo_36 ?_
  refine br_c (fun c => bad (fun q => Int32.not_lt.mpr q.2.2.2.2 c)) (fun c8 => ?_)
  refine blk kX5_isSo_43 ?_
  refine blk kX5_isSo_48 ?_
  exact ⟨Or.inr rfl, by rw [bI_t ⟨⟨Int32.not_lt.mp c1, Int32.not_lt.mp c2⟩, ⟨Int32.not_lt.mp c3, Int32.not_lt.mp c4⟩, ⟨Int32.not_lt.mp c5, Int32.not_lt.mp c6⟩, Int32.not_lt.mp c7, Int32.not_lt.mp c8⟩], rfl⟩
theorem soP.rg {w d n k : Int32} (h : soP w d n k) : Rg 0 9 w ∧ Rg 0 99 d ∧ Rg 0 99 n ∧ Rg 1 99 k := by
  obtain ⟨h1, h2, h3, h4, h5⟩ := h
  refine ⟨rg_of h1.1 h1.2 (by decide), rg_of h2.1 h2.2 (by decide), rg_of h3.1 h3.2 (by decide), ?_, ?_⟩
  · have := Int32.le_iff_toInt_le.mp h4; rw [nI_toInt (by decide)] at this; exact this
  · have := Int32.le_iff_toInt_le.mp h5; rw [nI_toInt (by decide)] at this; exact this
theorem corner_rg {c : Int32} (h : inN c 8) : Rg 0 7 c := by
  obtain ⟨e, l⟩ := inN_ix h (by decide)
  rw [e]; exact rgN (by omega) (by omega) (by omega)
def oStreet (σ : Sg) (a b : Int32) : Value × Sg := if inN a 8 ∧ inN b 8 then (if a = b then noI σ 6 else if nSt (gT σ) = 12 then noI σ 7 else (.int (nI (nSt (gT σ))), (adS (gT σ) (nSt (gT σ)) a b, σ.2))) else noI σ 1
theorem o_street {G : GG} {h : Hp} {m : Nat} {σ : Sg} {a b : Int32} (r : MRep m h σ) : Ct G mX5_street 1 0 0 [.ref m, .int a, .int b] h (PO m (oStreet σ a b)) nX := by
  have hM := r.1
  obtain ⟨s, n, k, t⟩ := r.tw
  have hs := t.s12
  have es := t.1.nSt_
  refine Ct.mk ok_mX5_street ?_
  unfold oStreet
  rw [es]
  have bad : ¬ (inN a 8 ∧ inN b 8) → WW G mX5_street (rmO 1 0 0) h (PO m (if inN a 8 ∧ inN b 8 then (if a = b then noI σ 6 else if s = 12 then noI σ 7 else (.int (nI s), (adS (gT σ) s a b, σ.2))) else noI σ 1)) nX 16 [.ref m, .int a, .int b] [] h 0 0 := by
    intro c
    rw [if_neg c]
    refine blk kX5_street_16 ?_
    refine callv_g hM.1 (no_PO (k := 1) r (by decide) rfl) (fun r1 h1 hO => ?_)
    obtain ⟨rfl, hr⟩ := hO
    exact ⟨trivial, rfl, hr⟩
  refine blk kX5_street_0 ?_
  refine callv_r hM.1 (c_isCorner hM t) ?_
  refine br_c (fun c1 => ?_) (fun c1 => ?_)
  · exact bad (fun q => bI_eq c1 q.1)
  · have c1 := bI_ne c1
    refine blk kX5_street_8 ?_
    refine callv_r hM.1 (c_isCorner hM t) ?_
    refine brn_c (fun c2 => ?_) (fun c2 => ?_)
    · have c2 := bI_ne c2
      rw [if_pos ⟨c1, c2⟩]
      refine blk kX5_street_22 ?_
      refine brn_c (fun c3 => ?_) (fun c3 => ?_)
      · have c3 : ¬ a = b := c3
        rw [if_neg c3]
        refine blk kX5_street_34 ?_
        refine ⟨_, hM.1, rfl, ?_⟩
        refine brn_c (fun c4 => ?_) (fun c4 => ?_)
        · have c4 : ¬ Fi h 29 m = nI 12 := c4
          rw [t.nS, nI_eq (by omega) (by decide)] at c4
          rw [if_neg c4]
          refine blk kX5_street_52 ?_
          refine callv_g hM.1 (c_streets hM t (by omega) (corner_rg c1) (corner_rg c2)) (fun r1 h1 hO => ?_)
          obtain ⟨rfl, f, t2⟩ := hO
          refine blk kX5_street_58 ?_
          exact ⟨trivial, rfl, r.tk (f.tk rfl rfl rfl) t2⟩
        · have c4 : Fi h 29 m = nI 12 := c4
          rw [t.nS, nI_eq (by omega) (by decide)] at c4
          rw [if_pos c4]
          refine blk kX5_street_43 ?_
          refine callv_g hM.1 (no_PO (k := 7) r (by decide) rfl) (fun r1 h1 hO => ?_)
          obtain ⟨rfl, hr⟩ := hO
          refine blk kX5_street_58 ?_
          exact ⟨trivial, rfl, hr⟩
      · have c3 : a = b := c3
        rw [if_pos c3]
        refine blk kX5_street_27 ?_
        refine callv_g hM.1 (no_PO (k := 6) r (by decide) rfl) (fun r1 h1 hO => ?_)
        obtain ⟨rfl, hr⟩ := hO
        exact ⟨trivial, rfl, hr⟩
    · exact bad (fun q => bI_eq c2 q.2)
def oShake (σ : Sg) (a b : Int32) : Value × Sg := if (0 ≤ a ∧ a ≤ nI 99) ∧ (0 ≤ b ∧ b ≤ nI 9) then (if nSk (gT σ) = 4 then noI σ 7 else (.int (nI (nSk (gT σ))), (adK (gT σ) (nSk (gT σ)) a b, σ.2))) else noI σ 6
theorem o_shake {G : GG} {h : Hp} {m : Nat} {σ : Sg} {a b : Int32} (r : MRep m h σ) : Ct G mX5_shake 1 0 0 [.ref m, .int a, .int b] h (PO m (oShake σ a b)) nX := by
  have hM := r.1
  obtain ⟨s, n, k, t⟩ := r.tw
  have hk := t.k4
  have ek := t.1.nSk_
  refine Ct.mk ok_mX5_shake ?_
  unfold oShake
  rw [ek]
  have bad : ¬ ((0 ≤ a ∧ a ≤ nI 99) ∧ (0 ≤ b ∧ b ≤ nI 9)) → WW G mX5_shake (rmO 1 0 0) h (PO m (if (0 ≤ a ∧ a ≤ nI 99) ∧ (0 ≤ b ∧ b ≤ nI 9) then (if k = 4 then noI σ 7 else (.int (nI k), (adK (gT σ) k a b, σ.2))) else noI σ 6)) nX 20 [.ref m, .int a, .int b] [] h 0 0 := by
    intro c
    rw [if_neg c]
    refine blk kX5_shake_20 ?_
    refine callv_g hM.1 (no_PO (k := 6) r (by decide) rfl) (fun r1 h1 hO => ?_)
    obtain ⟨rfl, hr⟩ := hO
    exact ⟨trivial, rfl, hr⟩
  refine blk kX5_shake_0 ?_
  refine br_c (fun c => bad (fun q => Int32.not_lt.mpr q.1.1 c)) (fun c1 => ?_)
  refine blk kX5_shake_4 ?_
  refine br_c (fun c => bad (fun q => Int32.not_lt.mpr q.1.2 c)) (fun c2 => ?_)
  refine blk kX5_shake_10 ?_
  refine br_c (fun c => bad (fun q => Int32.not_lt.mpr q.2.1 c)) (fun c3 => ?_)
  refine blk kX5_shake_14 ?_
  refine br_c (fun c4 => ?_) (fun c => bad (fun q => c q.2.2))
  have c9 : (0 ≤ a ∧ a ≤ nI 99) ∧ (0 ≤ b ∧ b ≤ nI 9) := ⟨⟨Int32.not_lt.mp c1, Int32.not_lt.mp c2⟩, Int32.not_lt.mp c3, c4⟩
  rw [if_pos c9]
  refine blk kX5_shake_27 ?_
  refine ⟨_, hM.1, rfl, ?_⟩
  refine brn_c (fun c4 => ?_) (fun c4 => ?_)
  · have c4 : ¬ Fi h 31 m = nI 4 := c4
    rw [t.nK, nI_eq (by omega) (by decide)] at c4
    rw [if_neg c4]
    refine blk kX5_shake_44 ?_
    refine callv_g hM.1 (c_shakes hM t (by omega) (rg_of c9.1.1 c9.1.2 (by decide)) (rg_of c9.2.1 c9.2.2 (by decide))) (fun r1 h1 hO => ?_)
    obtain ⟨rfl, f, t2⟩ := hO
    refine blk kX5_shake_50 ?_
    exact ⟨trivial, rfl, r.tk (f.tk rfl rfl rfl) t2⟩
  · have c4 : Fi h 31 m = nI 4 := c4
    rw [t.nK, nI_eq (by omega) (by decide)] at c4
    rw [if_pos c4]
    refine blk kX5_shake_35 ?_
    refine callv_g hM.1 (no_PO (k := 7) r (by decide) rfl) (fun r1 h1 hO => ?_)
    obtain ⟨rfl, hr⟩ := hO
    refine blk kX5_shake_50 ?_
    exact ⟨trivial, rfl, hr⟩
def oHouse (σ : Sg) (c w d n k : Int32) : Value × Sg := if inN c 8 then (if soP w d n k then (if nHo (gT σ) = 10 then noI σ 7 else (.int (nI (nHo (gT σ))), (adH (gT σ) (nHo (gT σ)) c w d n k, σ.2))) else noI σ 6) else noI σ 1
theorem o_house {G : GG} {h : Hp} {m : Nat} {σ : Sg} {c w d e q : Int32} (r : MRep m h σ) : Ct G mX5_house 1 0 0 [.ref m, .int c, .int w, .int d, .int e, .int q] h (PO m (oHouse σ c w d e q)) nX := by
  have hM := r.1
  obtain ⟨s, n, k, t⟩ := r.tw
  have hn := t.n10
  have en := t.1.nHo_
  refine Ct.mk ok_mX5_house ?_
  unfold oHouse
  rw [en]
  refine blk kX5_house_0 ?_
  refine callv_r hM.1 (c_isCorner hM t) ?_
  refine brn_c (fun c1 => ?_) (fun c1 => ?_)
  · have c1 := bI_ne c1
    rw [if_pos c1]
    refine blk kX5_house_14 ?_
    refine callv_r hM.1 (c_isSo) ?_
    refine brn_c (fun c2 => ?_) (fun c2 => ?_)
    · have c2 := bI_ne c2
      rw [if_pos c2]
      obtain ⟨g1, g2, g3, g4⟩ := soP.rg c2
      refine blk kX5_house_34 ?_
      refine ⟨_, hM.1, rfl, ?_⟩
      refine brn_c (fun c4 => ?_) (fun c4 => ?_)
      · have c4 : ¬ Fi h 30 m = nI 10 := c4
        rw [t.nH, nI_eq (by omega) (by decide)] at c4
        rw [if_neg c4]
        refine blk kX5_house_52 ?_
        refine callv_g hM.1 (c_comes hM t (by omega) (corner_rg c1) g1 g2 g3 g4) (fun r1 h1 hO => ?_)
        obtain ⟨rfl, f, t2⟩ := hO
        refine blk kX5_house_63 ?_
        exact ⟨trivial, rfl, r.tk (f.tk rfl rfl rfl) t2⟩
      · have c4 : Fi h 30 m = nI 10 := c4
        rw [t.nH, nI_eq (by omega) (by decide)] at c4
        rw [if_pos c4]
        refine blk kX5_house_43 ?_
        refine callv_g hM.1 (no_PO (k := 7) r (by decide) rfl) (fun r1 h1 hO => ?_)
        obtain ⟨rfl, hr⟩ := hO
        refine blk kX5_house_63 ?_
        exact ⟨trivial, rfl, hr⟩
    · have c2 := bI_eq c2
      rw [if_neg c2]
      refine blk kX5_house_27 ?_
      refine callv_g hM.1 (no_PO (k := 6) r (by decide) rfl) (fun r1 h1 hO => ?_)
      obtain ⟨rfl, hr⟩ := hO
      exact ⟨trivial, rfl, hr⟩
  · have c1 := bI_eq c1
    rw [if_neg c1]
    refine blk kX5_house_8 ?_
    refine callv_g hM.1 (no_PO (k := 1) r (by decide) rfl) (fun r1 h1 hO => ?_)
    obtain ⟨rfl, hr⟩ := hO
    exact ⟨trivial, rfl, hr⟩
