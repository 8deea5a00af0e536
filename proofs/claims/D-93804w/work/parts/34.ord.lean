set_option maxRecDepth 100000
/-! orders: rows of houses -/
theorem len_lt : ∀ (n : Nat) (L : List Nat), L.Nodup → (∀ x ∈ L, x < n) → L.length ≤ n
  | 0, [], _, _ => Nat.le_refl _
  | 0, x :: L, _, h => absurd (h x List.mem_cons_self) (Nat.not_lt_zero _)
  | n + 1, L, hd, h => by
    have h2 : ∀ x ∈ L.erase n, x < n := fun x hx => by
      have h3 := h x (List.mem_of_mem_erase hx)
      have h4 : x ≠ n := fun e => by subst e; exact hd.not_mem_erase hx
      omega
    have h5 := len_lt n (L.erase n) (hd.erase n) h2
    rw [List.length_erase] at h5
    split at h5 <;> omega
def LOK (n : Nat) (L : List Nat) : Prop := L.Nodup ∧ ∀ x ∈ L, x < n
theorem LOK.len {n : Nat} {L : List Nat} (h : LOK n L) : L.length ≤ n := len_lt n L h.1 h.2
theorem LOK.nil {n : Nat} : LOK n [] := ⟨List.nodup_nil, fun _ h => by cases h⟩
theorem LOK.snoc {n b : Nat} {L : List Nat} (h : LOK n L) (hb : b < n) (hm : b ∉ L) : LOK n (L ++ [b]) :=
  ⟨List.nodup_append.mpr ⟨h.1, by simp, fun x hx y hy e => by simp at hy; subst hy; subst e; exact hm hx⟩, fun x hx => by
    rcases List.mem_append.mp hx with h1 | h1
    · exact h.2 x h1
    · simp at h1; omega⟩
theorem LOK.lt {n b : Nat} {L : List Nat} (h : LOK n L) (hb : b < n) (hm : b ∉ L) : L.length < n := by
  have := (h.snoc hb hm).len
  simp at this
  omega
theorem LOK.all {n b : Nat} {L : List Nat} (h : LOK n L) (hl : L.length = n) (hb : b < n) : b ∈ L := by
  by_cases hm : b ∈ L
  · exact hm
  · have := h.lt hb hm; omega
def OrdR (m : Nat) (h : Hp) (L : List Nat) : Prop := Fi h 73 m = nI L.length ∧ ∀ i, i < L.length → Ai h (m + 28) i = nI (L.getD i 0)
theorem getD_snoc {L : List Nat} {b i : Nat} (hi : i < (L ++ [b]).length) : (L ++ [b]).getD i 0 = if i = L.length then b else L.getD i 0 := by
  simp at hi
  split
  · rename_i e; subst e; simp
  · rw [List.getD_eq_getElem?_getD, List.getElem?_append_left (by omega), List.getD_eq_getElem?_getD]
theorem OrdR.snoc {m b : Nat} {h : Hp} {L : List Nat} (o : OrdR m h L) {v w : Int32} (hv : v = nI (L.length + 1)) (hw : w = nI b) : OrdR m (sAi (sFi h 73 m v) (m + 28) L.length w) (L ++ [b]) := by
  refine ⟨?_, fun i hi => ?_⟩
  · show up2 (Fi h) 73 m v 73 m = _
    rw [up2_ap, if_pos ⟨rfl, rfl⟩, hv]; simp
  · rw [getD_snoc hi]
    show up2 (Ai h) (m + 28) L.length w (m + 28) i = _
    rw [up2_ap]
    simp at hi
    by_cases e : i = L.length
    · rw [if_pos ⟨rfl, e⟩, if_pos e, hw]
    · rw [if_neg (fun q => e q.2), if_neg e]; exact o.2 i (by omega)
theorem OrdR.mk_ {m : Nat} {h h' : Hp} {L : List Nat} (o : OrdR m h L) (e1 : Fi h' 73 m = Fi h 73 m) (e2 : Ai h' (m + 28) = Ai h (m + 28)) : OrdR m h' L := ⟨e1.trans o.1, fun i hi => by rw [e2]; exact o.2 i hi⟩
theorem c_isIn {G : GG} {h : Hp} {m b : Nat} {L : List Nat} {x : Int32} (hM : MSh m h) (o : OrdR m h L) (hL : L.length ≤ 10) (hl : ∀ y ∈ L, y < 10) (hb : b < 10) (hx : x = nI b) : Ct G mX5_isIn 0 0 0 [.ref m, .int x] h (Rv (some (.int (bI (b ∈ L)))) h) nX := by
  refine Ct.mk ok_mX5_isIn ?_
  refine blk kX5_isIn_0 ?_
  have loop : ∀ (q i : Nat) (z : Int32), i + q = L.length → z = nI i → (∀ j, j < i → L.getD j 0 ≠ b) → WW G mX5_isIn (rmO 0 0 0) h (Rv (some (.int (bI (b ∈ L)))) h) nX 2 [.ref m, .int x, .int z] [] h 0 0 := by
    intro q
    induction q with
    | zero =>
      intro i z hq hz hs
      have hi : L.length = i := by omega
      subst hi
      refine blk kX5_isIn_2 ?_
      refine ⟨_, hM.1, rfl, ?_⟩
      refine br_t (by rw [hz, o.1]; exact Int32.le_refl _) ?_
      refine blk kX5_isIn_28 ?_
      refine ⟨Or.inl rfl, by rw [bI_f]; intro hm; obtain ⟨j, hj, e⟩ := List.getElem_of_mem hm; exact hs j hj (by rw [List.getD_eq_getElem?_getD, List.getElem?_eq_getElem hj]; exact e), rfl⟩
    | succ q ih =>
      intro i z hq hz hs
      have hi : i < L.length := by omega
      refine blk kX5_isIn_2 ?_
      refine ⟨_, hM.1, rfl, ?_⟩
      refine br_f (by rw [hz, o.1]; exact nI_ge hi (by omega)) ?_
      refine blk kX5_isIn_10 ?_
      refine ⟨_, _, hM.1, rfl, hM.order_.1, ?_⟩
      refine ⟨i, _, hM.order_.2.1, Or.inl rfl, hz, Nat.lt_of_lt_of_eq (by omega) hM.order_.2.2.symm, ?_⟩
      have hmem : L.getD i 0 ∈ L := by rw [List.getD_eq_getElem?_getD, List.getElem?_eq_getElem hi]; exact List.getElem_mem hi
      refine brn_c (fun c1 => ?_) (fun c1 => ?_)
      · have c1 : ¬ Ai h (m + 28) i = x := c1
        rw [o.2 i hi, hx, nI_eq (by have := hl _ hmem; omega) (by omega)] at c1
        refine blk kX5_isIn_22 ?_
        refine ih (i + 1) _ (by omega) (by rw [hz]; exact nI_1 i) (fun j hj => ?_)
        by_cases e : j = i
        · subst e; exact c1
        · exact hs j (by omega)
      · have c1 : Ai h (m + 28) i = x := c1
        rw [o.2 i hi, hx, nI_eq (by have := hl _ hmem; omega) (by omega)] at c1
        refine blk kX5_isIn_20 ?_
        exact ⟨Or.inr rfl, by rw [bI_t (by rw [← c1]; exact hmem)], rfl⟩
  exact loop _ 0 _ (Nat.zero_add _) rfl (fun j hj => absurd hj (Nat.not_lt_zero _))
def wkS (T : Tw) (a : Nat) : Int32 := T.2 5 a - nI 4 * T.2 11 a
def ahP (T : Tw) (k : Int32) (a b : Nat) : Bool := if k = nI 3 ∧ ¬ (T.2 9 a = -1 ↔ T.2 9 b = -1) then decide (¬ T.2 9 a = -1) else if k = nI 1 ∨ k = nI 3 then decide (¬ pplP T a (nI 2) ≤ pplP T b (nI 2)) else if k = nI 5 ∧ ¬ T.2 12 a = T.2 12 b then decide (T.2 12 a = 0) else decide ((k = nI 2 ∨ k = nI 5) ∧ ¬ wkS T a ≤ wkS T b)
theorem c_isAhead {G : GG} {h : Hp} {m a b s n k : Nat} {T : Tw} {kk x y : Int32} (hM : MSh m h) (hT : MTw m h T s n k) (ha : a < n) (hb : b < n) (hx : x = nI a) (hy : y = nI b) : Ct G mX5_isAhead 1 0 0 [.ref m, .int kk, .int x, .int y] h (Rv (some (.int (bI (ahP T kk a b = true)))) h) nX := by
  have hn := hT.n10
  refine Ct.mk ok_mX5_isAhead ?_
  have yes : ahP T kk a b = true → some (Value.int (nI 1)) = some (Value.int (bI (ahP T kk a b = true))) := fun e => by rw [bI_t e]
  have non : ¬ ahP T kk a b = true → some (Value.int (nI 0)) = some (Value.int (bI (ahP T kk a b = true))) := fun e => by rw [bI_f e]
  have r130 : ¬ (kk = nI 3 ∧ ¬ (T.2 9 a = -1 ↔ T.2 9 b = -1)) → ¬ (kk = nI 1 ∨ kk = nI 3) → ¬ (kk = nI 5 ∧ ¬ T.2 12 a = T.2 12 b) → (kk = nI 2 ∨ kk = nI 5) → WW G mX5_isAhead (rmO 1 0 0) h (Rv (some (.int (bI (ahP T kk a b = true)))) h) nX 130 [.ref m, .int kk, .int x, .int y] [] h 0 0 := by
    intro d1 d2 d3 d4
    refine blk kX5_isAhead_130 ?_
    refine ⟨_, _, hM.1, rfl, hM.weak_.1, ?_⟩
    refine ⟨a, _, hM.weak_.2.1, Or.inl rfl, hx, Nat.lt_of_lt_of_eq (by omega) hM.weak_.2.2.symm, ?_⟩
    refine ⟨_, _, hM.1, rfl, hM.steps_.1, ?_⟩
    refine ⟨a, _, hM.steps_.2.1, Or.inl rfl, hx, Nat.lt_of_lt_of_eq (by omega) hM.steps_.2.2.symm, ?_⟩
    refine ⟨_, _, hM.1, rfl, hM.weak_.1, ?_⟩
    refine ⟨b, _, hM.weak_.2.1, Or.inl rfl, hy, Nat.lt_of_lt_of_eq (by omega) hM.weak_.2.2.symm, ?_⟩
    refine ⟨_, _, hM.1, rfl, hM.steps_.1, ?_⟩
    refine ⟨b, _, hM.steps_.2.1, Or.inl rfl, hy, Nat.lt_of_lt_of_eq (by omega) hM.steps_.2.2.symm, ?_⟩
    refine br_c (fun c1 => ?_) (fun c1 => ?_)
    · have c1 : Ai h (m + 7) a - nI 4 * Ai h (m + 13) a ≤ Ai h (m + 7) b - nI 4 * Ai h (m + 13) b := c1
      rw [hT.weak_ ha, hT.weak_ hb, hT.steps_ ha, hT.steps_ hb] at c1
      refine blk kX5_isAhead_167 ?_
      refine blk kX5_isAhead_168 ?_
      refine ⟨Or.inl rfl, non ?_, rfl⟩
      unfold ahP
      rw [if_neg d1, if_neg d2, if_neg d3, decide_eq_true_iff]
      exact fun q => q.2 c1
    · have c1 : ¬ Ai h (m + 7) a - nI 4 * Ai h (m + 13) a ≤ Ai h (m + 7) b - nI 4 * Ai h (m + 13) b := c1
      rw [hT.weak_ ha, hT.weak_ hb, hT.steps_ ha, hT.steps_ hb] at c1
      refine blk kX5_isAhead_163 ?_
      refine blk kX5_isAhead_168 ?_
      refine ⟨Or.inr rfl, yes ?_, rfl⟩
      unfold ahP
      rw [if_neg d1, if_neg d2, if_neg d3, decide_eq_true_iff]
      exact ⟨d4, c1⟩
  have r120 : ¬ (kk = nI 3 ∧ ¬ (T.2 9 a = -1 ↔ T.2 9 b = -1)) → ¬ (kk = nI 1 ∨ kk = nI 3) → ¬ (kk = nI 5 ∧ ¬ T.2 12 a = T.2 12 b) → WW G mX5_isAhead (rmO 1 0 0) h (Rv (some (.int (bI (ahP T kk a b = true)))) h) nX 120 [.ref m, .int kk, .int x, .int y] [] h 0 0 := by
    intro d1 d2 d3
    refine blk kX5_isAhead_120 ?_
    refine br_c (fun c1 => ?_) (fun c1 => ?_)
    · exact r130 d1 d2 d3 (Or.inl c1)
    · refine blk kX5_isAhead_125 ?_
      refine brn_c (fun c2 => ?_) (fun c2 => ?_)
      · refine blk kX5_isAhead_167 ?_
        refine blk kX5_isAhead_168 ?_
        refine ⟨Or.inl rfl, non ?_, rfl⟩
        unfold ahP
        rw [if_neg d1, if_neg d2, if_neg d3, decide_eq_true_iff]
        exact fun q => q.1.elim c1 c2
      · exact r130 d1 d2 d3 (Or.inr c2)
  have r85 : ¬ (kk = nI 3 ∧ ¬ (T.2 9 a = -1 ↔ T.2 9 b = -1)) → ¬ (kk = nI 1 ∨ kk = nI 3) → WW G mX5_isAhead (rmO 1 0 0) h (Rv (some (.int (bI (ahP T kk a b = true)))) h) nX 85 [.ref m, .int kk, .int x, .int y] [] h 0 0 := by
    intro d1 d2
    refine blk kX5_isAhead_85 ?_
    refine brn_c (fun c1 => ?_) (fun c1 => ?_)
    · exact r120 d1 d2 (fun q => c1 q.1)
    · refine blk kX5_isAhead_90 ?_
      refine ⟨_, _, hM.1, rfl, hM.propped_.1, ?_⟩
      refine ⟨a, _, hM.propped_.2.1, Or.inl rfl, hx, Nat.lt_of_lt_of_eq (by omega) hM.propped_.2.2.symm, ?_⟩
      refine ⟨_, _, hM.1, rfl, hM.propped_.1, ?_⟩
      refine ⟨b, _, hM.propped_.2.1, Or.inl rfl, hy, Nat.lt_of_lt_of_eq (by omega) hM.propped_.2.2.symm, ?_⟩
      refine br_c (fun c2 => ?_) (fun c2 => ?_)
      · have c2 : Ai h (m + 14) a = Ai h (m + 14) b := c2
        rw [hT.propped_ ha, hT.propped_ hb] at c2
        exact r120 d1 d2 (fun q => q.2 c2)
      · have c2 : ¬ Ai h (m + 14) a = Ai h (m + 14) b := c2
        rw [hT.propped_ ha, hT.propped_ hb] at c2
        refine blk kX5_isAhead_105 ?_
        refine ⟨_, _, hM.1, rfl, hM.propped_.1, ?_⟩
        refine ⟨a, _, hM.propped_.2.1, Or.inl rfl, hx, Nat.lt_of_lt_of_eq (by omega) hM.propped_.2.2.symm, ?_⟩
        refine brn_c (fun c3 => ?_) (fun c3 => ?_)
        · have c3 : ¬ Ai h (m + 14) a = 0 := c3
          rw [hT.propped_ ha] at c3
          refine blk kX5_isAhead_118 ?_
          refine blk kX5_isAhead_119 ?_
          refine ⟨Or.inl rfl, non ?_, rfl⟩
          unfold ahP
          rw [if_neg d1, if_neg d2, if_pos ⟨c1, c2⟩, decide_eq_true_iff]
          exact c3
        · have c3 : Ai h (m + 14) a = 0 := c3
          rw [hT.propped_ ha] at c3
          refine blk kX5_isAhead_114 ?_
          refine blk kX5_isAhead_119 ?_
          refine ⟨Or.inr rfl, yes ?_, rfl⟩
          unfold ahP
          rw [if_neg d1, if_neg d2, if_pos ⟨c1, c2⟩, decide_eq_true_iff]
          exact c3
  have r64 : ¬ (kk = nI 3 ∧ ¬ (T.2 9 a = -1 ↔ T.2 9 b = -1)) → (kk = nI 1 ∨ kk = nI 3) → WW G mX5_isAhead (rmO 1 0 0) h (Rv (some (.int (bI (ahP T kk a b = true)))) h) nX 64 [.ref m, .int kk, .int x, .int y] [] h 0 0 := by
    intro d1 d2
    refine blk kX5_isAhead_64 ?_
    refine callv_r hM.1 (c_people hM hT ha hx) ?_
    refine callv_r hM.1 (c_people hM hT hb hy) ?_
    refine br_c (fun c1 => ?_) (fun c1 => ?_)
    · refine blk kX5_isAhead_83 ?_
      refine blk kX5_isAhead_84 ?_
      refine ⟨Or.inl rfl, non ?_, rfl⟩
      unfold ahP
      rw [if_neg d1, if_pos d2, decide_eq_true_iff]
      exact fun q => q c1
    · refine blk kX5_isAhead_79 ?_
      refine blk kX5_isAhead_84 ?_
      refine ⟨Or.inr rfl, yes ?_, rfl⟩
      unfold ahP
      rw [if_neg d1, if_pos d2, decide_eq_true_iff]
      exact c1
  have r54 : ¬ (kk = nI 3 ∧ ¬ (T.2 9 a = -1 ↔ T.2 9 b = -1)) → WW G mX5_isAhead (rmO 1 0 0) h (Rv (some (.int (bI (ahP T kk a b = true)))) h) nX 54 [.ref m, .int kk, .int x, .int y] [] h 0 0 := by
    intro d1
    refine blk kX5_isAhead_54 ?_
    refine br_c (fun c1 => ?_) (fun c1 => ?_)
    · exact r64 d1 (Or.inl c1)
    · refine blk kX5_isAhead_59 ?_
      refine brn_c (fun c2 => ?_) (fun c2 => ?_)
      · exact r85 d1 (fun q => q.elim c1 c2)
      · exact r64 d1 (Or.inr c2)
  refine blk kX5_isAhead_0 ?_
  refine brn_c (fun c1 => ?_) (fun c1 => ?_)
  · exact r54 (fun q => c1 q.1)
  · have r35 : ∀ u v : Int32, u = bI (T.2 9 a = -1) → v = bI (T.2 9 b = -1) → WW G mX5_isAhead (rmO 1 0 0) h (Rv (some (.int (bI (ahP T kk a b = true)))) h) nX 35 [.ref m, .int kk, .int x, .int y] [.int v, .int u] h 0 0 := by
      intro u v hu hv
      refine blk kX5_isAhead_35 ?_
      refine br_c (fun c2 => ?_) (fun c2 => ?_)
      · have c2 : u = v := c2
        refine r54 (fun q => q.2 ?_)
        rw [hu, hv] at c2
        constructor
        · intro e
          rw [bI_t e] at c2
          exact bI_ne (by rw [← c2]; decide)
        · intro e
          rw [bI_t e] at c2
          exact bI_ne (by rw [c2]; decide)
      · have c2 : ¬ u = v := c2
        have d1 : kk = nI 3 ∧ ¬ (T.2 9 a = -1 ↔ T.2 9 b = -1) := ⟨c1, fun q => c2 (by
          rw [hu, hv]
          by_cases e : T.2 9 a = -1
          · rw [bI_t e, bI_t (q.mp e)]
          · rw [bI_f e, bI_f (fun z => e (q.mpr z))])⟩
        refine blk kX5_isAhead_38 ?_
        refine ⟨_, _, hM.1, rfl, hM.front_.1, ?_⟩
        refine ⟨a, _, hM.front_.2.1, Or.inl rfl, hx, Nat.lt_of_lt_of_eq (by omega) hM.front_.2.2.symm, ?_⟩
        refine br_c (fun c3 => ?_) (fun c3 => ?_)
        · have c3 : Ai h (m + 11) a = -1 := c3
          rw [hT.front_ ha] at c3
          refine blk kX5_isAhead_52 ?_
          refine blk kX5_isAhead_53 ?_
          refine ⟨Or.inl rfl, non ?_, rfl⟩
          unfold ahP
          rw [if_pos d1, decide_eq_true_iff]
          exact fun q => q c3
        · have c3 : ¬ Ai h (m + 11) a = -1 := c3
          rw [hT.front_ ha] at c3
          refine blk kX5_isAhead_48 ?_
          refine blk kX5_isAhead_53 ?_
          refine ⟨Or.inr rfl, yes ?_, rfl⟩
          unfold ahP
          rw [if_pos d1, decide_eq_true_iff]
          exact c3
    have r20 : ∀ u : Int32, u = bI (T.2 9 a = -1) → WW G mX5_isAhead (rmO 1 0 0) h (Rv (some (.int (bI (ahP T kk a b = true)))) h) nX 20 [.ref m, .int kk, .int x, .int y] [.int u] h 0 0 := by
      intro u hu
      refine blk kX5_isAhead_20 ?_
      refine ⟨_, _, hM.1, rfl, hM.front_.1, ?_⟩
      refine ⟨b, _, hM.front_.2.1, Or.inl rfl, hy, Nat.lt_of_lt_of_eq (by omega) hM.front_.2.2.symm, ?_⟩
      refine brn_c (fun c2 => ?_) (fun c2 => ?_)
      · have c2 : ¬ Ai h (m + 11) b = -1 := c2
        rw [hT.front_ hb] at c2
        refine blk kX5_isAhead_34 ?_
        exact r35 _ _ hu (by rw [bI_f c2])
      · have c2 : Ai h (m + 11) b = -1 := c2
        rw [hT.front_ hb] at c2
        refine blk kX5_isAhead_30 ?_
        exact r35 _ _ hu (by rw [bI_t c2])
    refine blk kX5_isAhead_5 ?_
    refine ⟨_, _, hM.1, rfl, hM.front_.1, ?_⟩
    refine ⟨a, _, hM.front_.2.1, Or.inl rfl, hx, Nat.lt_of_lt_of_eq (by omega) hM.front_.2.2.symm, ?_⟩
    refine brn_c (fun c2 => ?_) (fun c2 => ?_)
    · have c2 : ¬ Ai h (m + 11) a = -1 := c2
      rw [hT.front_ ha] at c2
      refine blk kX5_isAhead_19 ?_
      exact r20 _ (by rw [bI_f c2])
    · have c2 : Ai h (m + 11) a = -1 := c2
      rw [hT.front_ ha] at c2
      refine blk kX5_isAhead_15 ?_
      exact r20 _ (by rw [bI_t c2])
/-- all that are not there yet come behind -/
def restsL (T : Tw) (L : List Nat) : Nat → List Nat
  | 0 => L
  | i + 1 => if nI 2 ≤ T.2 11 i ∨ i ∈ restsL T L i then restsL T L i else restsL T L i ++ [i]
theorem restsL_ok {T : Tw} {L : List Nat} {n : Nat} (hL : LOK n L) : ∀ i, i ≤ n → LOK n (restsL T L i)
  | 0, _ => hL
  | i + 1, h => by
    unfold restsL
    split
    · exact restsL_ok hL i (by omega)
    · rename_i c
      exact (restsL_ok hL i (by omega)).snoc (by omega) (fun q => c (Or.inr q))
theorem c_rests {G : GG} {h : Hp} {m s n k : Nat} {T : Tw} {L : List Nat} (hM : MSh m h) (hT : MTw m h T s n k) (hL : LOK n L) (o : OrdR m h L) : Ct G mX5_rests 1 0 0 [.ref m] h (fun r h2 => r = none ∧ MK m h h2 ∧ OrdR m h2 (restsL T L n) ∧ Al h2 = Al h) nX := by
  have hn := hT.n10
  refine Ct.mk ok_mX5_rests ?_
  refine blk kX5_rests_0 ?_
  have loop : ∀ (q i : Nat) (z : Int32) (h' : Hp), i + q = n → z = nI i → MK m h h' → OrdR m h' (restsL T L i) → Al h' = Al h → WW G mX5_rests (rmO 1 0 0) h (fun r h2 => r = none ∧ MK m h h2 ∧ OrdR m h2 (restsL T L n) ∧ Al h2 = Al h) nX 2 [.ref m, .int z] [] h' 0 0 := by
    intro q
    induction q with
    | zero =>
      intro i z h' hq hz hk o ha
      have hi : n = i := by omega
      subst hi
      have hM := hk.MSh hM
      refine blk kX5_rests_2 ?_
      refine ⟨_, hM.1, rfl, ?_⟩
      refine br_t (by rw [hz]; exact Int32.le_of_eq (hk.MTw hT).nH) ?_
      refine blk kX5_rests_51 ?_
      exact ⟨trivial, rfl, hk, o, ha⟩
    | succ q ih =>
      intro i z h' hq hz hk o ha
      have hi : i < n := by omega
      have hM' := hM
      have hM := hk.MSh hM
      have hT' := hk.MTw hT
      have lo := restsL_ok (T := T) hL i (by omega)
      refine blk kX5_rests_2 ?_
      refine ⟨_, hM.1, rfl, ?_⟩
      refine br_f (by rw [hz, hT'.nH]; exact nI_ge hi (by omega)) ?_
      have skip : (nI 2 ≤ T.2 11 i ∨ i ∈ restsL T L i) → WW G mX5_rests (rmO 1 0 0) h (fun r h2 => r = none ∧ MK m h h2 ∧ OrdR m h2 (restsL T L n) ∧ Al h2 = Al h) nX 45 [.ref m, .int z] [] h' 0 0 := by
        intro c
        refine blk kX5_rests_45 ?_
        exact ih (i + 1) _ _ (by omega) (by rw [hz]; exact nI_1 i) hk (by unfold restsL; rw [if_pos c]; exact o) ha
      refine blk kX5_rests_10 ?_
      refine ⟨_, _, hM.1, rfl, hM.steps_.1, ?_⟩
      refine ⟨i, _, hM.steps_.2.1, Or.inl rfl, hz, Nat.lt_of_lt_of_eq (by omega) hM.steps_.2.2.symm, ?_⟩
      refine br_c (fun c1 => ?_) (fun c1 => ?_)
      · have c1 : nI 2 ≤ Ai h' (m + 13) i := c1
        rw [hT'.steps_ hi] at c1
        exact skip (Or.inl c1)
      · have c1 : ¬ nI 2 ≤ Ai h' (m + 13) i := c1
        rw [hT'.steps_ hi] at c1
        refine blk kX5_rests_20 ?_
        refine callv_r hM.1 (c_isIn (b := i) hM o (by have := lo.len; omega) (fun y hy => by have := lo.2 y hy; omega) (by omega) hz) ?_
        refine brn_c (fun c2 => ?_) (fun c2 => ?_)
        · exact skip (Or.inr (bI_ne c2))
        · have c2 := bI_eq c2
          have hlt := lo.lt hi c2
          refine blk kX5_rests_28 ?_
          refine ⟨_, _, hM.1, rfl, hM.order_.1, ?_⟩
          refine ⟨rfl, ?_⟩
          refine ⟨_, hM.1, rfl, ?_⟩
          refine ⟨_, hM.1, rfl, ?_⟩
          refine ⟨(restsL T L i).length, hM.order_.2.1, o.1, Nat.lt_of_lt_of_eq (by omega) hM.order_.2.2.symm, ?_⟩
          refine blk kX5_rests_45 ?_
          refine ih (i + 1) _ _ (by omega) (by rw [hz]; exact nI_1 i) (hk.tr ((MK.sFi rfl).tr (MK.sAi rfl))) ?_ ha
          rw [show restsL T L (i + 1) = restsL T L i ++ [i] from if_neg (fun q => q.elim c1 c2)]
          exact o.snoc (show Fi h' 73 m + nI 1 = _ by rw [o.1]; exact nI_add _ 1) hz
  exact loop n 0 _ _ (by omega) rfl (MK.rf m h) o rfl
