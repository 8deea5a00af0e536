set_option maxRecDepth 100000
/-! the closure of the streets that are not shut -/
def bitP (x y : Int32) : Bool := decide ((x >>> (y &&& 31)) &&& nI 1 = nI 1)
theorem bitP_t {x y : Int32} (h : (x >>> (y &&& 31)) &&& nI 1 = nI 1) : bitP x y = true := decide_eq_true h
theorem bitP_f {x y : Int32} (h : ¬ (x >>> (y &&& 31)) &&& nI 1 = nI 1) : bitP x y = false := decide_eq_false h
def shutP (T : Tw) (set : Int32) (t : Nat) : Nat → Bool
  | 0 => false
  | j + 1 => shutP T set t j || (bitP set (nI j) && decide (T.2 9 j = nI t))
def goP (met a b : Int32) : Int32 := if bitP met a then met ||| (nI 1 <<< (b &&& 31)) else met
def stepP (T : Tw) (set : Int32) (n t : Nat) (met : Int32) : Int32 := if shutP T set t n then met else goP (goP met (T.2 0 t) (T.2 1 t)) (T.2 1 t) (T.2 0 t)
def passP (T : Tw) (set : Int32) (n : Nat) : Nat → Int32 → Int32
  | 0, met => met
  | t + 1, met => stepP T set n t (passP T set n t met)
def cloP (T : Tw) (set : Int32) (s n : Nat) : Nat → Int32 → Int32 → Int32
  | 0, _, met => met
  | r + 1, was, met => if was = met then met else cloP T set s n r met (passP T set n s met)
def cutP (T : Tw) (set : Int32) (s n : Nat) : Int32 := nI 255 &&& (cloP T set s n 300 (nI 0) (nI 1) ^^^ -1)
/-! the met grow, within eight bits -/
theorem i32_or (a b : Int32) : (a ||| b).toBitVec = a.toBitVec ||| b.toBitVec := rfl
def In8 (x : Int32) : Prop := 0 ≤ x.toInt ∧ x.toInt < 256
theorem or_ge (a b : Nat) : a ≤ a ||| b := Nat.left_le_or
theorem in8_bv {x : Int32} (h : In8 x) : x.toBitVec.toNat < 256 ∧ x.toInt = x.toBitVec.toNat := by
  obtain ⟨h1, h2⟩ := h
  have e : x.toInt = x.toBitVec.toInt := rfl
  rw [e] at h1 h2
  rw [BitVec.toInt_eq_toNat_cond] at h1 h2
  have hlt := x.toBitVec.isLt
  rw [e, BitVec.toInt_eq_toNat_cond]
  split at h1 <;> split <;> omega
theorem in8_of {x : Int32} (h : x.toBitVec.toNat < 256) : In8 x ∧ x.toInt = x.toBitVec.toNat := by
  have e : x.toInt = x.toBitVec.toInt := rfl
  unfold In8
  rw [e, BitVec.toInt_eq_toNat_cond]
  split <;> omega
theorem in8_or {a b : Int32} (ha : In8 a) (hb : In8 b) : In8 (a ||| b) ∧ a.toInt ≤ (a ||| b).toInt := by
  obtain ⟨a1, a2⟩ := in8_bv ha
  obtain ⟨b1, b2⟩ := in8_bv hb
  have h : (a ||| b).toBitVec.toNat = a.toBitVec.toNat ||| b.toBitVec.toNat := by rw [i32_or, BitVec.toNat_or]
  have h3 : (a ||| b).toBitVec.toNat < 256 := by rw [h]; exact Nat.or_lt_two_pow (n := 8) a1 b1
  obtain ⟨c1, c2⟩ := in8_of h3
  refine ⟨c1, ?_⟩
  rw [a2, c2, h]
  exact Int.ofNat_le.mpr Nat.left_le_or
theorem in8_shl {x : Int32} (h : Rg 0 7 x) : In8 (nI 1 <<< (x &&& 31)) := by
  obtain ⟨e, hl⟩ := h.ix (N := 8) (by decide)
  rw [e]
  rcases (by omega : x.toNatClampNeg = 0 ∨ x.toNatClampNeg = 1 ∨ x.toNatClampNeg = 2 ∨ x.toNatClampNeg = 3 ∨ x.toNatClampNeg = 4 ∨ x.toNatClampNeg = 5 ∨ x.toNatClampNeg = 6 ∨ x.toNatClampNeg = 7) with q | q | q | q | q | q | q | q <;> rw [q] <;> unfold In8 <;> decide
theorem goP_in8 {met a b : Int32} (h : In8 met) (hb : Rg 0 7 b) : In8 (goP met a b) ∧ met.toInt ≤ (goP met a b).toInt := by
  unfold goP
  split
  · exact in8_or h (in8_shl hb)
  · exact ⟨h, Int.le_refl _⟩
theorem stepP_in8 {T : Tw} {set met : Int32} {n t : Nat} (h : In8 met) (hA : Rg 0 7 (T.2 0 t)) (hB : Rg 0 7 (T.2 1 t)) : In8 (stepP T set n t met) ∧ met.toInt ≤ (stepP T set n t met).toInt := by
  unfold stepP
  split
  · exact ⟨h, Int.le_refl _⟩
  · obtain ⟨h1, h2⟩ := goP_in8 (a := T.2 0 t) h hB
    obtain ⟨h3, h4⟩ := goP_in8 (a := T.2 1 t) h1 hA
    exact ⟨h3, Int.le_trans h2 h4⟩
theorem passP_in8 {T : Tw} {set met : Int32} {n s : Nat} (h : In8 met) (hs : ∀ i, i < s → Rg 0 7 (T.2 0 i) ∧ Rg 0 7 (T.2 1 i)) : ∀ t, t ≤ s → In8 (passP T set n t met) ∧ met.toInt ≤ (passP T set n t met).toInt := by
  intro t
  induction t with
  | zero => intro _; exact ⟨h, Int.le_refl _⟩
  | succ t ih =>
    intro ht
    obtain ⟨h1, h2⟩ := ih (by omega)
    obtain ⟨h3, h4⟩ := stepP_in8 (set := set) (n := n) h1 (hs t (by omega)).1 (hs t (by omega)).2
    exact ⟨h3, Int.le_trans h2 h4⟩
theorem c_cutOf {G : GG} {h : Hp} {m s n k : Nat} {T : Tw} {set : Int32} (hM : MSh m h) (hT : MTw m h T s n k) : Ct G mX5_cutOf 0 0 0 [.ref m, .int set] h (Rv (some (.int (cutP T set s n))) h) nX := by
  have eS := hT.nS
  have eN := hT.nH
  have hs2 := hT.s12
  have hn2 := hT.n10
  have hS : ∀ i, i < s → Rg 0 7 (T.2 0 i) ∧ Rg 0 7 (T.2 1 i) := fun i hi => hT.1.street hi
  refine Ct.mk ok_mX5_cutOf ?_
  have outer : ∀ (r : Nat) (was met : Int32) (v4 v5 v6 : Value), cloP T set s n r was met = cloP T set s n 300 (nI 0) (nI 1) → In8 met → was = met ∨ (256 - met.toInt < r) → WW G mX5_cutOf (rmO 0 0 0) h (Rv (some (.int (cutP T set s n))) h) nX 4 [.ref m, .int set, .int met, .int was, v4, v5, v6] [] h 0 0 := by
    intro r
    induction r with
    | zero =>
      intro was met v4 v5 v6 hc h8 hw
      rcases hw with hw | hw
      · refine blk kX5_cutOf_4 ?_
        refine br_t hw ?_
        refine blk kX5_cutOf_140 ?_
        refine ⟨trivial, ?_, rfl⟩
        unfold cutP
        rw [← hc]
        rfl
      · have := h8.2
        exact absurd hw (by omega)
    | succ r ih =>
      intro was met v4 v5 v6 hc h8 hw
      refine blk kX5_cutOf_4 ?_
      refine br_c (fun c1 => ?_) (fun c1 => ?_)
      · refine blk kX5_cutOf_140 ?_
        refine ⟨trivial, ?_, rfl⟩
        unfold cutP
        rw [← hc]
        unfold cloP
        rw [if_pos c1]
      · have hw : 256 - met.toInt < ((r + 1 : Nat) : Int) := hw.resolve_left c1
        have c1 : ¬ was = met := c1
        refine blk kX5_cutOf_9 ?_
        have streets : ∀ (q t : Nat) (z mt : Int32) (v5 v6 : Value), t + q = s → z = nI t → mt = passP T set n t met → WW G mX5_cutOf (rmO 0 0 0) h (Rv (some (.int (cutP T set s n))) h) nX 14 [.ref m, .int set, .int mt, .int met, .int z, v5, v6] [] h 0 0 := by
          intro q
          induction q with
          | zero =>
            intro t z mt v5 v6 hq hz hmt
            refine blk kX5_cutOf_14 ?_
            refine ⟨_, hM.1, rfl, ?_⟩
            rw [eS]
            refine br_t (by rw [hz]; exact nI_le (by omega) (by omega)) ?_
            refine blk kX5_cutOf_137 ?_
            have ht : t = s := by omega
            subst ht
            obtain ⟨g1, g2⟩ := passP_in8 (set := set) (n := n) h8 hS t (Nat.le_refl _)
            refine ih met mt _ _ _ ?_ (by rw [hmt]; exact g1) ?_
            · rw [← hc]
              conv => rhs; unfold cloP
              rw [if_neg c1, hmt]
            · rw [hmt]
              by_cases e : met = passP T set n t met
              · exact Or.inl e
              · right
                have : met.toInt ≠ (passP T set n t met).toInt := fun z => e (Int32.toInt_inj.mp z)
                omega
          | succ q ihq =>
            intro t z mt v5 v6 hq hz hmt
            have hts : t < s := by omega
            refine blk kX5_cutOf_14 ?_
            refine ⟨_, hM.1, rfl, ?_⟩
            rw [eS]
            refine br_f (by rw [hz]; exact nI_ge hts (by omega)) ?_
            refine blk kX5_cutOf_23 ?_
            have next : ∀ (mt2 : Int32) (v5 v6 : Value), mt2 = stepP T set n t mt → WW G mX5_cutOf (rmO 0 0 0) h (Rv (some (.int (cutP T set s n))) h) nX 131 [.ref m, .int set, .int mt2, .int met, .int z, v5, v6] [] h 0 0 := by
              intro mt2 v5 v6 h2
              refine blk kX5_cutOf_131 ?_
              refine ihq (t + 1) _ mt2 _ _ (by omega) (by rw [hz]; exact nI_1 t) ?_
              rw [h2, hmt]
              rfl
            have houses : ∀ (p j : Nat) (y op : Int32), j + p = n → y = nI j → op = (if shutP T set t j then nI 0 else nI 1) → WW G mX5_cutOf (rmO 0 0 0) h (Rv (some (.int (cutP T set s n))) h) nX 29 [.ref m, .int set, .int mt, .int met, .int z, .int op, .int y] [] h 0 0 := by
              intro p
              induction p with
              | zero =>
                intro j y op hp hy hop
                have hj : n = j := by omega
                subst hj
                refine blk kX5_cutOf_29 ?_
                refine ⟨_, hM.1, rfl, ?_⟩
                rw [eN]
                refine br_t (by rw [hy]; exact nI_le (Nat.le_refl _) (by omega)) ?_
                refine blk kX5_cutOf_69 ?_
                refine brn_c (fun c2 => ?_) (fun c2 => ?_)
                · have hsh : shutP T set t n = false := by
                    cases e : shutP T set t n with
                    | false => rfl
                    | true => rw [e] at hop; exact absurd hop c2
                  refine blk kX5_cutOf_77 ?_
                  refine ⟨_, _, hM.1, rfl, hM.sideA_.1, ?_⟩
                  refine ⟨t, _, hM.sideA_.2.1, Or.inl rfl, hz, Nat.lt_of_lt_of_eq (by omega) hM.sideA_.2.2.symm, ?_⟩
                  have fin : ∀ (m1 : Int32), m1 = goP mt (T.2 0 t) (T.2 1 t) → WW G mX5_cutOf (rmO 0 0 0) h (Rv (some (.int (cutP T set s n))) h) nX 104 [.ref m, .int set, .int m1, .int met, .int z, .int op, .int y] [] h 0 0 := by
                    intro m1 h1
                    refine blk kX5_cutOf_104 ?_
                    refine ⟨_, _, hM.1, rfl, hM.sideB_.1, ?_⟩
                    refine ⟨t, _, hM.sideB_.2.1, Or.inl rfl, hz, Nat.lt_of_lt_of_eq (by omega) hM.sideB_.2.2.symm, ?_⟩
                    refine brn_c (fun c3 => ?_) (fun c3 => ?_)
                    · refine next _ _ _ ?_
                      unfold stepP
                      rw [hsh, if_neg (by decide), ← h1]
                      unfold goP
                      rw [hT.sideB_ hts] at c3
                      rw [bitP_f c3, if_neg (by decide)]
                    · refine blk kX5_cutOf_119 ?_
                      refine ⟨_, _, hM.1, rfl, hM.sideA_.1, ?_⟩
                      refine ⟨t, _, hM.sideA_.2.1, Or.inl rfl, hz, Nat.lt_of_lt_of_eq (by omega) hM.sideA_.2.2.symm, ?_⟩
                      refine next _ _ _ ?_
                      unfold stepP
                      rw [hsh, if_neg (by decide), ← h1]
                      unfold goP
                      rw [hT.sideB_ hts] at c3
                      rw [bitP_t c3, if_pos rfl, hT.sideA_ hts]
                  refine brn_c (fun c3 => ?_) (fun c3 => ?_)
                  · refine fin _ ?_
                    unfold goP
                    rw [hT.sideA_ hts] at c3
                    rw [bitP_f c3, if_neg (by decide)]
                  · refine blk kX5_cutOf_92 ?_
                    refine ⟨_, _, hM.1, rfl, hM.sideB_.1, ?_⟩
                    refine ⟨t, _, hM.sideB_.2.1, Or.inl rfl, hz, Nat.lt_of_lt_of_eq (by omega) hM.sideB_.2.2.symm, ?_⟩
                    refine fin _ ?_
                    unfold goP
                    rw [hT.sideA_ hts] at c3
                    rw [bitP_t c3, if_pos rfl, hT.sideB_ hts]
                · have hsh : shutP T set t n = true := by
                    cases e : shutP T set t n with
                    | true => rfl
                    | false => rw [e] at hop; rw [hop] at c2; exact absurd c2 (by decide)
                  refine blk kX5_cutOf_74 ?_
                  refine next _ _ _ ?_
                  unfold stepP
                  rw [hsh, if_pos rfl]
              | succ p ihp =>
                intro j y op hp hy hop
                have hj : j < n := by omega
                refine blk kX5_cutOf_29 ?_
                refine ⟨_, hM.1, rfl, ?_⟩
                rw [eN]
                refine br_f (by rw [hy]; exact nI_ge hj (by omega)) ?_
                have nxt : ∀ (op2 : Int32), op2 = (if shutP T set t (j + 1) then nI 0 else nI 1) → WW G mX5_cutOf (rmO 0 0 0) h (Rv (some (.int (cutP T set s n))) h) nX 63 [.ref m, .int set, .int mt, .int met, .int z, .int op2, .int y] [] h 0 0 := by
                  intro op2 h2
                  refine blk kX5_cutOf_63 ?_
                  exact ihp (j + 1) _ op2 (by omega) (by rw [hy]; exact nI_1 j) h2
                refine blk kX5_cutOf_38 ?_
                refine brn_c (fun c2 => ?_) (fun c2 => ?_)
                · refine nxt _ ?_
                  have c2 : ¬ (set >>> (y &&& 31)) &&& nI 1 = nI 1 := c2
                  rw [hy] at c2
                  rw [hop]
                  simp [shutP, bitP_f c2]
                · have c2 : (set >>> (y &&& 31)) &&& nI 1 = nI 1 := c2
                  rw [hy] at c2
                  refine blk kX5_cutOf_48 ?_
                  refine ⟨_, _, hM.1, rfl, hM.front_.1, ?_⟩
                  refine ⟨j, _, hM.front_.2.1, Or.inl rfl, hy, Nat.lt_of_lt_of_eq (by omega) hM.front_.2.2.symm, ?_⟩
                  refine brn_c (fun c3 => ?_) (fun c3 => ?_)
                  · refine nxt _ ?_
                    rw [hT.front_ hj, hz] at c3
                    rw [hop]
                    simp [shutP, c3]
                  · refine blk kX5_cutOf_60 ?_
                    refine nxt _ ?_
                    rw [hT.front_ hj, hz] at c3
                    simp [shutP, bitP_t c2, c3]
            exact houses n 0 _ _ (by omega) rfl rfl
        exact streets s 0 _ _ _ _ (by omega) rfl rfl
  refine blk kX5_cutOf_0 ?_
  exact outer 300 _ _ _ _ _ rfl (by unfold In8; decide) (Or.inr (by decide))
