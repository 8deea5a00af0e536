set_option maxRecDepth 100000
/-! acts: which bodies run -/
abbrev Tc : Type := Nat × (Nat → Int32)
def bdS (τ : Tc) (b : Int32) : Tc := (τ.1 + 1, if 20 ≤ τ.1 then τ.2 else up1 τ.2 τ.1 b)
def AR (m : Nat) (h : Hp) (τ : Tc) : Prop := τ.1 < 100 ∧ Fi h 83 m = nI τ.1 ∧ ∀ i, i < 20 → Ai h (m + 32) i = τ.2 i
theorem c_body {G : GG} {h : Hp} {m : Nat} {τ : Tc} {b : Int32} (hM : MSh m h) (a : AR m h τ) (ha : τ.1 < 90) : Ct G mX5_body 0 0 0 [.ref m, .int b] h (fun r h2 => r = none ∧ AR m h2 (bdS τ b) ∧ FQ m [32] [] [83] h h2) nX := by
  obtain ⟨a1, a2, a3⟩ := a
  refine Ct.mk ok_mX5_body ?_
  have fin : ∀ h', FQ m [32] [] [83] h h' → Fi h' 83 m = nI τ.1 → (∀ i, i < 20 → Ai h' (m + 32) i = (bdS τ b).2 i) → WW G mX5_body (rmO 0 0 0) h (fun r h2 => r = none ∧ AR m h2 (bdS τ b) ∧ FQ m [32] [] [83] h h2) nX 19 [.ref m, .int b] [] h' 0 0 := by
    intro h' f e1 e2
    have hM := f.MSh hM
    refine blk kX5_body_19 ?_
    refine ⟨rfl, ?_⟩
    refine ⟨_, hM.1, rfl, ?_⟩
    refine ⟨_, hM.1, rfl, ?_⟩
    refine ⟨trivial, rfl, ⟨by show τ.1 + 1 < 100; omega, ?_, e2⟩, f.tr (FQ.sFi (by decide))⟩
    rw [Fi_sFi, e1]; exact nI_add _ 1
  refine blk kX5_body_0 ?_
  refine ⟨_, hM.1, rfl, ?_⟩
  refine br_c (fun c1 => ?_) (fun c1 => ?_)
  · have c1 : nI 20 ≤ Fi h 83 m := c1
    rw [a2, nI_leI (by decide) (by omega)] at c1
    exact fin h (FQ.rf h) a2 (fun i hi => by unfold bdS; rw [if_pos c1]; exact a3 i hi)
  · have c1 : ¬ nI 20 ≤ Fi h 83 m := c1
    rw [a2, nI_leI (by decide) (by omega)] at c1
    refine blk kX5_body_9 ?_
    refine ⟨_, _, hM.1, rfl, hM.trace_.1, ?_⟩
    refine ⟨_, hM.1, rfl, ?_⟩
    refine ⟨τ.1, hM.trace_.2.1, a2, Nat.lt_of_lt_of_eq (by omega) hM.trace_.2.2.symm, ?_⟩
    refine fin _ (FQ.sAi (by decide)) a2 (fun i hi => ?_)
    show up2 (Ai h) (m + 32) τ.1 b (m + 32) i = (if 20 ≤ τ.1 then τ.2 else up1 τ.2 τ.1 b) i
    rw [if_neg c1, up2_ap, up1_ap]
    by_cases e : i = τ.1
    · rw [if_pos ⟨rfl, e⟩, if_pos e]
    · rw [if_neg (fun q => e q.2), if_neg e]; exact a3 i hi
def orS (k s by_ x : Int32) (τ : Tc) : Int32 × Tc :=
  (if k = nI 1 ∨ k = nI 3 then (if k = nI 3 then x + nI 1 else x) + s + by_ else (if k = nI 3 then x + nI 1 else x) + s, bdS (if k = nI 1 ∨ k = nI 3 then bdS (if k = nI 3 then bdS τ (nI 30) else τ) (nI 20) else (if k = nI 3 then bdS τ (nI 30) else τ)) (nI 10))
theorem bdS_1 {τ : Tc} {b : Int32} : (bdS τ b).1 = τ.1 + 1 := rfl
theorem orS_1 {k s by_ x : Int32} {τ : Tc} : (orS k s by_ x τ).2.1 ≤ τ.1 + 3 := by
  unfold orS
  dsimp only
  rw [bdS_1]
  split <;> split <;> (try simp only [bdS_1]) <;> omega
theorem c_ordering {G : GG} {h : Hp} {m i : Nat} {kk bb x y : Int32} {τ : Tc} (hM : MSh m h) (a : AR m h τ) (ha : τ.1 < 80) (hi : i < 8) (hx : x = nI i) (ek : Ai h (m + 18) i = kk) (eb : Ai h (m + 19) i = bb) : Ct G mX5_ordering 1 0 0 [.ref m, .int x, .int y] h (fun r h2 => r = some (.int (orS kk x bb y τ).1) ∧ AR m h2 (orS kk x bb y τ).2 ∧ FQ m [32] [] [83] h h2) nX := by
  have hM0 := hM
  refine Ct.mk ok_mX5_ordering ?_
  obtain ⟨τ1, e1⟩ : ∃ t, t = if kk = nI 3 then bdS τ (nI 30) else τ := ⟨_, rfl⟩
  obtain ⟨y1, f1⟩ : ∃ t, t = if kk = nI 3 then y + nI 1 else y := ⟨_, rfl⟩
  obtain ⟨τ2, e2⟩ : ∃ t, t = if kk = nI 1 ∨ kk = nI 3 then bdS τ1 (nI 20) else τ1 := ⟨_, rfl⟩
  have eo : orS kk x bb y τ = (if kk = nI 1 ∨ kk = nI 3 then y1 + x + bb else y1 + x, bdS τ2 (nI 10)) := by unfold orS; rw [← e1, ← f1, ← e2]
  have l1 : τ1.1 < 85 := by rw [e1]; split <;> (try simp only [bdS_1]) <;> omega
  have l2 : τ2.1 < 90 := by rw [e2]; split <;> (try simp only [bdS_1]) <;> omega
  have j42 : ∀ h' v5, FQ m [32] [] [83] h h' → AR m h' τ2 → WW G mX5_ordering (rmO 1 0 0) h (fun r h2 => r = some (.int (orS kk x bb y τ).1) ∧ AR m h2 (orS kk x bb y τ).2 ∧ FQ m [32] [] [83] h h2) nX 42 [.ref m, .int x, .int y, .int kk, .int y1, v5] [] h' 0 0 := by
    intro h' v5 f a
    have hM := f.MSh hM0
    refine blk kX5_ordering_42 ?_
    refine callv_g hM.1 (c_body hM a l2) (fun r1 h1 hO => ?_)
    obtain ⟨rfl, a2, f2⟩ := hO
    have hM := f2.MSh hM
    have f3 := f.tr f2
    have eb' : Ai h1 (m + 19) i = bb := by rw [f3.2.2.1 19 (by decide)]; exact eb
    have j64 : (kk = nI 1 ∨ kk = nI 3) → WW G mX5_ordering (rmO 1 0 0) h (fun r h2 => r = some (.int (orS kk x bb y τ).1) ∧ AR m h2 (orS kk x bb y τ).2 ∧ FQ m [32] [] [83] h h2) nX 64 [.ref m, .int x, .int y, .int kk, .int y1, .int (y1 + x)] [] h1 0 0 := by
      intro c
      refine blk kX5_ordering_64 ?_
      refine ⟨_, _, hM.1, rfl, hM.by_.1, ?_⟩
      refine ⟨i, _, hM.by_.2.1, Or.inl rfl, hx, Nat.lt_of_lt_of_eq (by omega) hM.by_.2.2.symm, ?_⟩
      rw [eb']
      refine blk kX5_ordering_78 ?_
      exact ⟨trivial, by rw [eo, if_pos c], by rw [eo]; exact a2, f3⟩
    refine br_c (fun c1 => ?_) (fun c1 => ?_)
    · exact j64 (Or.inl c1)
    · refine blk kX5_ordering_59 ?_
      refine brn_c (fun c2 => ?_) (fun c2 => ?_)
      · refine blk kX5_ordering_76 ?_
        refine blk kX5_ordering_78 ?_
        exact ⟨trivial, by rw [eo, if_neg (fun q => q.elim c1 c2)], by rw [eo]; exact a2, f3⟩
      · exact j64 (Or.inr c2)
  have j26 : ∀ h' v5, FQ m [32] [] [83] h h' → AR m h' τ1 → WW G mX5_ordering (rmO 1 0 0) h (fun r h2 => r = some (.int (orS kk x bb y τ).1) ∧ AR m h2 (orS kk x bb y τ).2 ∧ FQ m [32] [] [83] h h2) nX 26 [.ref m, .int x, .int y, .int kk, .int y1, v5] [] h' 0 0 := by
    intro h' v5 f a
    have hM := f.MSh hM0
    have j36 : (kk = nI 1 ∨ kk = nI 3) → WW G mX5_ordering (rmO 1 0 0) h (fun r h2 => r = some (.int (orS kk x bb y τ).1) ∧ AR m h2 (orS kk x bb y τ).2 ∧ FQ m [32] [] [83] h h2) nX 36 [.ref m, .int x, .int y, .int kk, .int y1, v5] [] h' 0 0 := by
      intro c
      rw [if_pos c] at e2
      refine blk kX5_ordering_36 ?_
      refine callv_g hM.1 (c_body hM a (by omega)) (fun r1 h1 hO => ?_)
      obtain ⟨rfl, a2, f2⟩ := hO
      exact j42 _ _ (f.tr f2) (by rw [e2]; exact a2)
    refine blk kX5_ordering_26 ?_
    refine br_c (fun c1 => ?_) (fun c1 => ?_)
    · exact j36 (Or.inl c1)
    · refine blk kX5_ordering_31 ?_
      refine brn_c (fun c2 => ?_) (fun c2 => ?_)
      · rw [if_neg (fun q : kk = nI 1 ∨ kk = nI 3 => q.elim c1 c2)] at e2
        exact j42 _ _ f (by rw [e2]; exact a)
      · exact j36 (Or.inr c2)
  refine blk kX5_ordering_0 ?_
  refine ⟨_, _, hM.1, rfl, hM.kind_.1, ?_⟩
  refine ⟨i, _, hM.kind_.2.1, Or.inl rfl, hx, Nat.lt_of_lt_of_eq (by omega) hM.kind_.2.2.symm, ?_⟩
  rw [ek]
  refine brn_c (fun c1 => ?_) (fun c1 => ?_)
  · have c1 : ¬ kk = nI 3 := c1
    rw [if_neg c1] at e1 f1
    have := j26 h dV (FQ.rf h) (by rw [e1]; exact a)
    rw [f1] at this
    exact this
  · have c1 : kk = nI 3 := c1
    rw [if_pos c1] at e1 f1
    refine blk kX5_ordering_15 ?_
    refine callv_g hM.1 (c_body hM a (by omega)) (fun r1 h1 hO => ?_)
    obtain ⟨rfl, a2, f2⟩ := hO
    have := j26 h1 dV f2 (by rw [e1]; exact a2)
    rw [f1] at this
    exact this
def coA (k : Int32) (τ : Tc) : Tc := if k = nI 5 then bdS τ (nI 50) else τ
def coB (k : Int32) (τ : Tc) : Tc := if k = nI 2 ∨ k = nI 5 then bdS τ (nI 40) else τ
def coC (k : Int32) (τ : Tc) : Tc := if k = nI 6 then bdS τ (nI 71) else τ
def coV (k v : Int32) : Int32 := if k = nI 2 then v * nI 2 * nI 3 else if k = nI 5 then -(v * nI 2 * nI 3) else v * nI 2
def coX (k by_ x : Int32) : Int32 := if k = nI 6 then x - by_ else x
def coS (k s by_ x : Int32) (τ : Tc) : Int32 × Tc := (coV k (orS k s by_ (coX k by_ x) (bdS (coC k (coB k (coA k τ))) (nI 11))).1, (orS k s by_ (coX k by_ x) (bdS (coC k (coB k (coA k τ))) (nI 11))).2)
theorem coA_1 {k : Int32} {τ : Tc} : (coA k τ).1 ≤ τ.1 + 1 := by unfold coA; split <;> (try simp only [bdS_1]) <;> omega
theorem coB_1 {k : Int32} {τ : Tc} : (coB k τ).1 ≤ τ.1 + 1 := by unfold coB; split <;> (try simp only [bdS_1]) <;> omega
theorem coC_1 {k : Int32} {τ : Tc} : (coC k τ).1 ≤ τ.1 + 1 := by unfold coC; split <;> (try simp only [bdS_1]) <;> omega
theorem coS_1 {k s by_ x : Int32} {τ : Tc} : (coS k s by_ x τ).2.1 ≤ τ.1 + 7 := by
  have h1 := coA_1 (k := k) (τ := τ)
  have h2 := coB_1 (k := k) (τ := coA k τ)
  have h3 := coC_1 (k := k) (τ := coB k (coA k τ))
  have h4 := orS_1 (k := k) (s := s) (by_ := by_) (x := coX k by_ x) (τ := bdS (coC k (coB k (coA k τ))) (nI 11))
  rw [bdS_1] at h4
  unfold coS
  dsimp only
  omega
theorem c_costing {G : GG} {h : Hp} {m i : Nat} {kk bb x y : Int32} {τ : Tc} (hM : MSh m h) (a : AR m h τ) (ha : τ.1 < 60) (hi : i < 8) (hx : x = nI i) (ek : Ai h (m + 18) i = kk) (eb : Ai h (m + 19) i = bb) : Ct G mX5_costing 2 0 0 [.ref m, .int x, .int y] h (fun r h2 => r = some (.int (coS kk x bb y τ).1) ∧ AR m h2 (coS kk x bb y τ).2 ∧ FQ m [32] [] [83] h h2) nX := by
  have hM0 := hM
  have h1 := coA_1 (k := kk) (τ := τ)
  have h2 := coB_1 (k := kk) (τ := coA kk τ)
  have h3 := coC_1 (k := kk) (τ := coB kk (coA kk τ))
  refine Ct.mk ok_mX5_costing ?_
  have j59 : ∀ h' v5, FQ m [32] [] [83] h h' → AR m h' (coC kk (coB kk (coA kk τ))) → WW G mX5_costing (rmO 2 0 0) h (fun r h2 => r = some (.int (coS kk x bb y τ).1) ∧ AR m h2 (coS kk x bb y τ).2 ∧ FQ m [32] [] [83] h h2) nX 59 [.ref m, .int x, .int y, .int kk, .int (coX kk bb y), v5] [] h' 0 0 := by
    intro h' v5 f a
    have hM := f.MSh hM0
    refine blk kX5_costing_59 ?_
    refine callv_g hM.1 (c_body hM a (by omega)) (fun r1 h1 hO => ?_)
    obtain ⟨rfl, a2, f2⟩ := hO
    have f3 := f.tr f2
    have hM := f3.MSh hM0
    refine callv_g hM.1 (c_ordering (kk := kk) (bb := bb) hM a2 (by rw [bdS_1]; omega) hi hx ((congrFun (f3.2.2.1 18 (by decide)) i).trans ek) ((congrFun (f3.2.2.1 19 (by decide)) i).trans eb)) (fun r1 h1 hO => ?_)
    obtain ⟨rfl, a4, f4⟩ := hO
    rename_i h9
    have f5 := f3.tr f4
    have hM := f5.MSh hM0
    have fin : ∀ v : Int32, v = coV kk (orS kk x bb (coX kk bb y) (bdS (coC kk (coB kk (coA kk τ))) (nI 11))).1 → ∀ v5, WW G mX5_costing (rmO 2 0 0) h (fun r h2 => r = some (.int (coS kk x bb y τ).1) ∧ AR m h2 (coS kk x bb y τ).2 ∧ FQ m [32] [] [83] h h2) nX 103 [.ref m, .int x, .int y, .int kk, .int (coX kk bb y), v5] [.int v] h1 0 0 := by
      intro v hv v5
      refine blk kX5_costing_103 ?_
      exact ⟨trivial, by rw [hv]; rfl, a4, f5⟩
    refine brn_c (fun c1 => ?_) (fun c1 => ?_)
    · have c1 : ¬ kk = nI 2 := c1
      refine blk kX5_costing_88 ?_
      refine brn_c (fun c2 => ?_) (fun c2 => ?_)
      · have c2 : ¬ kk = nI 5 := c2
        refine blk kX5_costing_101 ?_
        exact fin _ (by unfold coV; rw [if_neg c1, if_neg c2]) _
      · have c2 : kk = nI 5 := c2
        refine blk kX5_costing_93 ?_
        exact fin _ (by unfold coV; rw [if_neg c1, if_pos c2]) _
    · have c1 : kk = nI 2 := c1
      refine blk kX5_costing_81 ?_
      exact fin _ (by unfold coV; rw [if_pos c1]) _
  have j37 : ∀ h' v5, FQ m [32] [] [83] h h' → AR m h' (coB kk (coA kk τ)) → WW G mX5_costing (rmO 2 0 0) h (fun r h2 => r = some (.int (coS kk x bb y τ).1) ∧ AR m h2 (coS kk x bb y τ).2 ∧ FQ m [32] [] [83] h h2) nX 37 [.ref m, .int x, .int y, .int kk, .int y, v5] [] h' 0 0 := by
    intro h' v5 f a
    have hM := f.MSh hM0
    refine blk kX5_costing_37 ?_
    refine brn_c (fun c1 => ?_) (fun c1 => ?_)
    · have c1 : ¬ kk = nI 6 := c1
      have := j59 h' v5 f (by unfold coC; rw [if_neg c1]; exact a)
      rw [show coX kk bb y = y from if_neg c1] at this
      exact this
    · have c1 : kk = nI 6 := c1
      refine blk kX5_costing_43 ?_
      refine callv_g hM.1 (c_body hM a (by omega)) (fun r1 h1 hO => ?_)
      obtain ⟨rfl, a2, f2⟩ := hO
      have f3 := f.tr f2
      have hM := f3.MSh hM0
      have eb' : Ai h1 (m + 19) i = bb := by rw [f3.2.2.1 19 (by decide)]; exact eb
      refine ⟨_, _, hM.1, rfl, hM.by_.1, ?_⟩
      refine ⟨i, _, hM.by_.2.1, Or.inl rfl, hx, Nat.lt_of_lt_of_eq (by omega) hM.by_.2.2.symm, ?_⟩
      rw [eb']
      have := j59 h1 v5 f3 (by unfold coC; rw [if_pos c1]; exact a2)
      rw [show coX kk bb y = y - bb from if_pos c1] at this
      exact this
  have j21 : ∀ h' v5, FQ m [32] [] [83] h h' → AR m h' (coA kk τ) → WW G mX5_costing (rmO 2 0 0) h (fun r h2 => r = some (.int (coS kk x bb y τ).1) ∧ AR m h2 (coS kk x bb y τ).2 ∧ FQ m [32] [] [83] h h2) nX 21 [.ref m, .int x, .int y, .int kk, .int y, v5] [] h' 0 0 := by
    intro h' v5 f a
    have hM := f.MSh hM0
    have j31 : (kk = nI 2 ∨ kk = nI 5) → WW G mX5_costing (rmO 2 0 0) h (fun r h2 => r = some (.int (coS kk x bb y τ).1) ∧ AR m h2 (coS kk x bb y τ).2 ∧ FQ m [32] [] [83] h h2) nX 31 [.ref m, .int x, .int y, .int kk, .int y, v5] [] h' 0 0 := by
      intro c
      refine blk kX5_costing_31 ?_
      refine callv_g hM.1 (c_body hM a (by omega)) (fun r1 h1 hO => ?_)
      obtain ⟨rfl, a2, f2⟩ := hO
      exact j37 _ _ (f.tr f2) (by unfold coB; rw [if_pos c]; exact a2)
    refine blk kX5_costing_21 ?_
    refine br_c (fun c1 => ?_) (fun c1 => ?_)
    · exact j31 (Or.inl c1)
    · refine blk kX5_costing_26 ?_
      refine brn_c (fun c2 => ?_) (fun c2 => ?_)
      · exact j37 _ _ f (by unfold coB; rw [if_neg (fun q => q.elim c1 c2)]; exact a)
      · exact j31 (Or.inr c2)
  refine blk kX5_costing_0 ?_
  refine ⟨_, _, hM.1, rfl, hM.kind_.1, ?_⟩
  refine ⟨i, _, hM.kind_.2.1, Or.inl rfl, hx, Nat.lt_of_lt_of_eq (by omega) hM.kind_.2.2.symm, ?_⟩
  rw [ek]
  refine brn_c (fun c1 => ?_) (fun c1 => ?_)
  · have c1 : ¬ kk = nI 5 := c1
    exact j21 h dV (FQ.rf h) (by unfold coA; rw [if_neg c1]; exact a)
  · have c1 : kk = nI 5 := c1
    refine blk kX5_costing_15 ?_
    refine callv_g hM.1 (c_body hM a (by omega)) (fun r1 h1 hO => ?_)
    obtain ⟨rfl, a2, f2⟩ := hO
    exact j21 h1 dV f2 (by unfold coA; rw [if_pos c1]; exact a2)
def saA (k : Int32) (τ : Tc) : Tc := if k = nI 3 then bdS τ (nI 31) else τ
def saB (k : Int32) (τ : Tc) : Tc := if k = nI 4 then bdS τ (nI 60) else τ
def saC (k : Int32) (τ : Tc) : Tc := if k = nI 6 then bdS τ (nI 70) else τ
def saV (k s v : Int32) : Int32 := if k = nI 3 then v - s else if k = nI 4 then v ^^^ nI 5 else if k = nI 6 then v * nI 2 else v
def saS (k s by_ x : Int32) (τ : Tc) : Int32 × Tc := (saV k s ((coS k s by_ x (bdS (saC k (saB k (saA k τ))) (nI 12))).1 ^^^ (orS k s by_ (x - by_) (coS k s by_ x (bdS (saC k (saB k (saA k τ))) (nI 12))).2).1), (orS k s by_ (x - by_) (coS k s by_ x (bdS (saC k (saB k (saA k τ))) (nI 12))).2).2)
theorem saA_1 {k : Int32} {τ : Tc} : (saA k τ).1 ≤ τ.1 + 1 := by unfold saA; split <;> (try simp only [bdS_1]) <;> omega
theorem saB_1 {k : Int32} {τ : Tc} : (saB k τ).1 ≤ τ.1 + 1 := by unfold saB; split <;> (try simp only [bdS_1]) <;> omega
theorem saC_1 {k : Int32} {τ : Tc} : (saC k τ).1 ≤ τ.1 + 1 := by unfold saC; split <;> (try simp only [bdS_1]) <;> omega
theorem c_saving {G : GG} {h : Hp} {m i : Nat} {kk bb x y : Int32} {τ : Tc} (hM : MSh m h) (a : AR m h τ) (ha : τ.1 < 20) (hi : i < 8) (hx : x = nI i) (ek : Ai h (m + 18) i = kk) (eb : Ai h (m + 19) i = bb) : Ct G mX5_saving 3 0 0 [.ref m, .int x, .int y] h (fun r h2 => r = some (.int (saS kk x bb y τ).1) ∧ AR m h2 (saS kk x bb y τ).2 ∧ FQ m [32] [] [83] h h2) nX := by
  have hM0 := hM
  have h1 := saA_1 (k := kk) (τ := τ)
  have h2 := saB_1 (k := kk) (τ := saA kk τ)
  have h3 := saC_1 (k := kk) (τ := saB kk (saA kk τ))
  have h4 := coS_1 (k := kk) (s := x) (by_ := bb) (x := y) (τ := bdS (saC kk (saB kk (saA kk τ))) (nI 12))
  rw [bdS_1] at h4
  refine Ct.mk ok_mX5_saving ?_
  have j41 : ∀ h' v4, FQ m [32] [] [83] h h' → AR m h' (saC kk (saB kk (saA kk τ))) → WW G mX5_saving (rmO 3 0 0) h (fun r h2 => r = some (.int (saS kk x bb y τ).1) ∧ AR m h2 (saS kk x bb y τ).2 ∧ FQ m [32] [] [83] h h2) nX 41 [.ref m, .int x, .int y, .int kk, v4] [] h' 0 0 := by
    intro h' v4 f a
    have hM := f.MSh hM0
    refine blk kX5_saving_41 ?_
    refine callv_g hM.1 (c_body hM a (by omega)) (fun r1 h1 hO => ?_)
    obtain ⟨rfl, a2, f2⟩ := hO
    have f3 := f.tr f2
    have hM := f3.MSh hM0
    refine callv_g hM.1 (c_costing (kk := kk) (bb := bb) hM a2 (by rw [bdS_1]; omega) hi hx ((congrFun (f3.2.2.1 18 (by decide)) i).trans ek) ((congrFun (f3.2.2.1 19 (by decide)) i).trans eb)) (fun r1 h1 hO => ?_)
    obtain ⟨rfl, a4, f4⟩ := hO
    have f5 := f3.tr f4
    have hM := f5.MSh hM0
    have e5 : Ai h1 (m + 19) i = bb := (congrFun (f5.2.2.1 19 (by decide)) i).trans eb
    refine ⟨_, _, hM.1, rfl, hM.by_.1, ?_⟩
    refine ⟨i, _, hM.by_.2.1, Or.inl rfl, hx, Nat.lt_of_lt_of_eq (by omega) hM.by_.2.2.symm, ?_⟩
    refine callv_g hM.1 (c_ordering (kk := kk) (bb := bb) hM a4 (by omega) hi hx ((congrFun (f5.2.2.1 18 (by decide)) i).trans ek) ((congrFun (f5.2.2.1 19 (by decide)) i).trans eb)) (fun r1 h1 hO => ?_)
    obtain ⟨rfl, a6, f6⟩ := hO
    have f7 := f5.tr f6
    have hM := f7.MSh hM0
    rw [e5] at a6 ⊢
    have fin : ∀ v : Int32, v = (saS kk x bb y τ).1 → ∀ v4, WW G mX5_saving (rmO 3 0 0) h (fun r h2 => r = some (.int (saS kk x bb y τ).1) ∧ AR m h2 (saS kk x bb y τ).2 ∧ FQ m [32] [] [83] h h2) nX 112 [.ref m, .int x, .int y, .int kk, v4] [.int v] h1 0 0 := by
      intro v hv v4
      refine blk kX5_saving_112 ?_
      exact ⟨trivial, by rw [hv], a6, f7⟩
    have eV : (saS kk x bb y τ).1 = saV kk x ((coS kk x bb y (bdS (saC kk (saB kk (saA kk τ))) (nI 12))).1 ^^^ (orS kk x bb (y - bb) (coS kk x bb y (bdS (saC kk (saB kk (saA kk τ))) (nI 12))).2).1) := rfl
    rw [eV] at fin
    refine brn_c (fun c1 => ?_) (fun c1 => ?_)
    · have c1 : ¬ kk = nI 3 := c1
      refine blk kX5_saving_85 ?_
      refine brn_c (fun c2 => ?_) (fun c2 => ?_)
      · have c2 : ¬ kk = nI 4 := c2
        refine blk kX5_saving_97 ?_
        refine brn_c (fun c3 => ?_) (fun c3 => ?_)
        · have c3 : ¬ kk = nI 6 := c3
          refine blk kX5_saving_110 ?_
          exact fin _ (by unfold saV; rw [if_neg c1, if_neg c2, if_neg c3]) _
        · have c3 : kk = nI 6 := c3
          refine blk kX5_saving_103 ?_
          exact fin _ (by unfold saV; rw [if_neg c1, if_neg c2, if_pos c3]) _
      · have c2 : kk = nI 4 := c2
        refine blk kX5_saving_90 ?_
        exact fin _ (by unfold saV; rw [if_neg c1, if_pos c2]) _
    · have c1 : kk = nI 3 := c1
      refine blk kX5_saving_78 ?_
      exact fin _ (by unfold saV; rw [if_pos c1]) _
  have j29 : ∀ h' v4, FQ m [32] [] [83] h h' → AR m h' (saB kk (saA kk τ)) → WW G mX5_saving (rmO 3 0 0) h (fun r h2 => r = some (.int (saS kk x bb y τ).1) ∧ AR m h2 (saS kk x bb y τ).2 ∧ FQ m [32] [] [83] h h2) nX 29 [.ref m, .int x, .int y, .int kk, v4] [] h' 0 0 := by
    intro h' v4 f a
    have hM := f.MSh hM0
    refine blk kX5_saving_29 ?_
    refine brn_c (fun c1 => ?_) (fun c1 => ?_)
    · have c1 : ¬ kk = nI 6 := c1
      exact j41 h' v4 f (by unfold saC; rw [if_neg c1]; exact a)
    · have c1 : kk = nI 6 := c1
      refine blk kX5_saving_35 ?_
      refine callv_g hM.1 (c_body hM a (by omega)) (fun r1 h1 hO => ?_)
      obtain ⟨rfl, a2, f2⟩ := hO
      exact j41 h1 v4 (f.tr f2) (by unfold saC; rw [if_pos c1]; exact a2)
  have j18 : ∀ h' v4, FQ m [32] [] [83] h h' → AR m h' (saA kk τ) → WW G mX5_saving (rmO 3 0 0) h (fun r h2 => r = some (.int (saS kk x bb y τ).1) ∧ AR m h2 (saS kk x bb y τ).2 ∧ FQ m [32] [] [83] h h2) nX 18 [.ref m, .int x, .int y, .int kk, v4] [] h' 0 0 := by
    intro h' v4 f a
    have hM := f.MSh hM0
    refine blk kX5_saving_18 ?_
    refine brn_c (fun c1 => ?_) (fun c1 => ?_)
    · have c1 : ¬ kk = nI 4 := c1
      exact j29 h' v4 f (by unfold saB; rw [if_neg c1]; exact a)
    · have c1 : kk = nI 4 := c1
      refine blk kX5_saving_23 ?_
      refine callv_g hM.1 (c_body hM a (by omega)) (fun r1 h1 hO => ?_)
      obtain ⟨rfl, a2, f2⟩ := hO
      exact j29 h1 v4 (f.tr f2) (by unfold saB; rw [if_pos c1]; exact a2)
  refine blk kX5_saving_0 ?_
  refine ⟨_, _, hM.1, rfl, hM.kind_.1, ?_⟩
  refine ⟨i, _, hM.kind_.2.1, Or.inl rfl, hx, Nat.lt_of_lt_of_eq (by omega) hM.kind_.2.2.symm, ?_⟩
  rw [ek]
  refine brn_c (fun c1 => ?_) (fun c1 => ?_)
  · have c1 : ¬ kk = nI 3 := c1
    exact j18 h dV (FQ.rf h) (by unfold saA; rw [if_neg c1]; exact a)
  · have c1 : kk = nI 3 := c1
    refine blk kX5_saving_12 ?_
    refine callv_g hM.1 (c_body hM a (by omega)) (fun r1 h1 hO => ?_)
    obtain ⟨rfl, a2, f2⟩ := hO
    exact j18 h1 dV f2 (by unfold saA; rw [if_pos c1]; exact a2)
/-- the trace told -/
def sgR (σ : Sg) (τ : Tc) : Sg := (σ.1, σ.2.1, σ.2.2.1, σ.2.2.2.1, up1 σ.2.2.2.2.1 1 (nI τ.1), τ.2, σ.2.2.2.2.2.2)
def actS (k s by_ a x : Int32) (τ : Tc) : Int32 × Tc := if a = 0 then orS k s by_ x τ else if a = nI 1 then coS k s by_ x τ else saS k s by_ x τ
def oAct (σ : Sg) (s a x : Int32) : Value × Sg := if inN s 8 ∧ gS σ 0 s.toNatClampNeg = nI 2 ∧ (0 ≤ a ∧ a ≤ nI 2) then (.int (actS (gS σ 3 s.toNatClampNeg) s (gS σ 4 s.toNatClampNeg) a x (0, gX σ)).1, sgR σ (actS (gS σ 3 s.toNatClampNeg) s (gS σ 4 s.toNatClampNeg) a x (0, gX σ)).2) else (.int (nI 0), sgR σ (0, gX σ))
theorem MRep.tc {m : Nat} {h h' : Hp} {σ : Sg} {τ : Tc} (r : MRep m h σ) (f : FQ m [32] [] [83] h h') (a : AR m h' τ) : MRep m h' (sgR σ τ) := by
  obtain ⟨r1, ⟨s, n, k, r2⟩, r3, r4, r5, r6, r7, r8, r9, r10⟩ := r
  refine ⟨f.MSh r1, ⟨s, n, k, f.MTw r2 rfl rfl⟩, fun i hi => ?_, fun a i ha hi => ?_, fun i hi => ?_, ⟨?_, ?_, ?_⟩, a.2.2, ?_, fun i hi => ?_, r10⟩
  · rw [f.2.2.1 1 (by decide)]; exact r3 i hi
  · rw [f.2.2.1 (15 + a) (by simp; omega)]; exact r4 a i ha hi
  · rw [f.2.2.2 20 (by decide)]; exact r5 i hi
  · rw [f.2.1 39 (by decide)]; exact r6.1
  · rw [a.2.1]; rfl
  · rw [f.2.1 84 (by decide)]; exact r6.2.2
  · rw [f.2.2.1 24 (by decide)]; exact r8
  · rw [f.2.2.1 22 (by decide)]; exact r9 i hi
theorem o_act {G : GG} {h : Hp} {m : Nat} {σ : Sg} {s a x : Int32} (r : MRep m h σ) : Ct G mX5_act 4 0 0 [.ref m, .int s, .int a, .int x] h (PO m (oAct σ s a x)) nX := by
  have hM := r.1
  have hM0 := hM
  refine Ct.mk ok_mX5_act ?_
  unfold oAct
  have f0 : FQ m [32] [] [83] h (sFi h 83 m (nI 0)) := FQ.sFi (by decide)
  have a0 : AR m (sFi h 83 m (nI 0)) (0, gX σ) := ⟨(by decide : 0 < 100), Fi_sFi, r.2.2.2.2.2.2.1⟩
  have bad : ¬ (inN s 8 ∧ gS σ 0 s.toNatClampNeg = nI 2 ∧ (0 ≤ a ∧ a ≤ nI 2)) → WW G mX5_act (rmO 4 0 0) h (PO m (if inN s 8 ∧ gS σ 0 s.toNatClampNeg = nI 2 ∧ (0 ≤ a ∧ a ≤ nI 2) then (.int (actS (gS σ 3 s.toNatClampNeg) s (gS σ 4 s.toNatClampNeg) a x (0, gX σ)).1, sgR σ (actS (gS σ 3 s.toNatClampNeg) s (gS σ 4 s.toNatClampNeg) a x (0, gX σ)).2) else (.int (nI 0), sgR σ (0, gX σ)))) nX 32 [.ref m, .int s, .int a, .int x] [] (sFi h 83 m (nI 0)) 0 0 := by
    intro c
    rw [if_neg c]
    refine blk kX5_act_32 ?_
    exact ⟨trivial, rfl, r.tc f0 a0⟩
  refine blk kX5_act_0 ?_
  refine ⟨_, hM.1, rfl, ?_⟩
  refine callv_r hM.1 (c_isShelf) ?_
  refine br_c (fun c1 => ?_) (fun c1 => ?_)
  · exact bad (fun q => bI_eq c1 q.1)
  · have c1 := bI_ne c1
    obtain ⟨s1, s2⟩ := inN_ix c1 (by decide)
    refine blk kX5_act_13 ?_
    refine ⟨_, _, hM.1, rfl, hM.held_.1, ?_⟩
    refine ⟨_, _, hM.held_.2.1, Or.inl rfl, s1, Nat.lt_of_lt_of_eq (by omega) hM.held_.2.2.symm, ?_⟩
    refine brn_c (fun c2 => ?_) (fun c2 => ?_)
    · have c2 : ¬ Ai h (m + 15) s.toNatClampNeg = nI 2 := c2
      rw [r.2.2.2.1 0 _ (by decide) s2] at c2
      exact bad (fun q => c2 q.2.1)
    · have c2 : Ai h (m + 15) s.toNatClampNeg = nI 2 := c2
      rw [r.2.2.2.1 0 _ (by decide) s2] at c2
      refine blk kX5_act_23 ?_
      refine br_c (fun c3 => ?_) (fun c3 => ?_)
      · exact bad (fun q => Int32.not_lt.mpr q.2.2.1 c3)
      · refine blk kX5_act_27 ?_
        refine br_c (fun c4 => ?_) (fun c4 => ?_)
        · have c9 : inN s 8 ∧ gS σ 0 s.toNatClampNeg = nI 2 ∧ (0 ≤ a ∧ a ≤ nI 2) := ⟨c1, c2, Int32.not_lt.mp c3, c4⟩
          rw [if_pos c9]
          have ek : Ai (sFi h 83 m (nI 0)) (m + 18) s.toNatClampNeg = gS σ 3 s.toNatClampNeg := r.2.2.2.1 3 _ (by decide) s2
          have eb : Ai (sFi h 83 m (nI 0)) (m + 19) s.toNatClampNeg = gS σ 4 s.toNatClampNeg := r.2.2.2.1 4 _ (by decide) s2
          refine blk kX5_act_34 ?_
          refine brn_c (fun c5 => ?_) (fun c5 => ?_)
          · have c5 : ¬ a = 0 := c5
            refine blk kX5_act_47 ?_
            refine brn_c (fun c6 => ?_) (fun c6 => ?_)
            · have c6 : ¬ a = nI 1 := c6
              refine blk kX5_act_61 ?_
              refine callv_g hM.1 (c_saving (h := sFi h 83 m (nI 0)) hM a0 (by decide : 0 < 20) s2 s1 ek eb) (fun r1 h1 hO => ?_)
              obtain ⟨rfl, a2, f2⟩ := hO
              refine blk kX5_act_67 ?_
              rw [show actS (gS σ 3 s.toNatClampNeg) s (gS σ 4 s.toNatClampNeg) a x (0, gX σ) = _ from (if_neg c5).trans (if_neg c6)]
              exact ⟨trivial, rfl, r.tc (f0.tr f2) a2⟩
            · have c6 : a = nI 1 := c6
              refine blk kX5_act_52 ?_
              refine callv_g hM.1 (c_costing (h := sFi h 83 m (nI 0)) hM a0 (by decide : 0 < 60) s2 s1 ek eb) (fun r1 h1 hO => ?_)
              obtain ⟨rfl, a2, f2⟩ := hO
              refine blk kX5_act_67 ?_
              rw [show actS (gS σ 3 s.toNatClampNeg) s (gS σ 4 s.toNatClampNeg) a x (0, gX σ) = _ from (if_neg c5).trans (if_pos c6)]
              exact ⟨trivial, rfl, r.tc (f0.tr f2) a2⟩
          · have c5 : a = 0 := c5
            refine blk kX5_act_38 ?_
            refine callv_g hM.1 (c_ordering (h := sFi h 83 m (nI 0)) hM a0 (by decide : 0 < 80) s2 s1 ek eb) (fun r1 h1 hO => ?_)
            obtain ⟨rfl, a2, f2⟩ := hO
            refine blk kX5_act_67 ?_
            rw [show actS (gS σ 3 s.toNatClampNeg) s (gS σ 4 s.toNatClampNeg) a x (0, gX σ) = _ from if_pos c5]
            exact ⟨trivial, rfl, r.tc (f0.tr f2) a2⟩
        · exact bad (fun q => c4 q.2.2.2)
