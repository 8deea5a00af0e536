set_option maxRecDepth 100000
/-! a whole array put into the heap -/
def rAl (h : Hp) (a : Nat) (g : Nat → Int64) : Hp := (Kd h, Ln h, Fi h, Fl h, Fr h, Ai h, (fun b => if b = a then g else Al h b), Ar h, Nx h)
def rAi (h : Hp) (a : Nat) (g : Nat → Int32) : Hp := (Kd h, Ln h, Fi h, Fl h, Fr h, (fun b => if b = a then g else Ai h b), Al h, Ar h, Nx h)
theorem Al_rAl {h : Hp} {a : Nat} {g : Nat → Int64} : Al (rAl h a g) a = g := by simp [rAl, Al]
theorem Al_rAl_ne {h : Hp} {a b : Nat} {g : Nat → Int64} (hb : b ≠ a) : Al (rAl h a g) b = Al h b := by simp [rAl, Al, hb]
theorem Ai_rAi {h : Hp} {a : Nat} {g : Nat → Int32} : Ai (rAi h a g) a = g := by simp [rAi, Ai]
theorem Ai_rAi_ne {h : Hp} {a b : Nat} {g : Nat → Int32} (hb : b ≠ a) : Ai (rAi h a g) b = Ai h b := by simp [rAi, Ai, hb]
theorem rAl_self {h : Hp} {a : Nat} : rAl h a (Al h a) = h := by
  obtain ⟨x1, x2, x3, x4, x5, x6, x7, x8, x9⟩ := h
  simp only [rAl, Kd, Ln, Fi, Fl, Fr, Ai, Al, Ar, Nx]
  congr
  funext b
  split
  · rename_i e; rw [e]
  · rfl
theorem rAi_self {h : Hp} {a : Nat} : rAi h a (Ai h a) = h := by
  obtain ⟨x1, x2, x3, x4, x5, x6, x7, x8, x9⟩ := h
  simp only [rAi, Kd, Ln, Fi, Fl, Fr, Ai, Al, Ar, Nx]
  congr
  funext b
  split
  · rename_i e; rw [e]
  · rfl
theorem sAl_rAl {h : Hp} {a j : Nat} {g : Nat → Int64} {v : Int64} : sAl (rAl h a g) a j v = rAl h a (up1 g j v) := by
  unfold sAl rAl
  simp only [Kd, Ln, Fi, Fl, Fr, Ai, Al, Ar, Nx]
  congr
  funext b c
  simp only [up2_ap, up1]
  by_cases hb : b = a
  · simp [hb, up1_ap]
  · simp [hb]
theorem sAi_rAi {h : Hp} {a j : Nat} {g : Nat → Int32} {v : Int32} : sAi (rAi h a g) a j v = rAi h a (up1 g j v) := by
  unfold sAi rAi
  simp only [Kd, Ln, Fi, Fl, Fr, Ai, Al, Ar, Nx]
  congr
  funext b c
  simp only [up2_ap, up1]
  by_cases hb : b = a
  · simp [hb, up1_ap]
  · simp [hb]
theorem sAl_r {h : Hp} {a j : Nat} {v : Int64} : sAl h a j v = rAl h a (up1 (Al h a) j v) := by
  conv => lhs; rw [← rAl_self (h := h) (a := a)]
  rw [sAl_rAl]
theorem sAi_r {h : Hp} {a j : Nat} {v : Int32} : sAi h a j v = rAi h a (up1 (Ai h a) j v) := by
  conv => lhs; rw [← rAi_self (h := h) (a := a)]
  rw [sAi_rAi]
theorem rAl_rAl {h : Hp} {a : Nat} {f g : Nat → Int64} : rAl (rAl h a f) a g = rAl h a g := by
  unfold rAl
  simp only [Kd, Ln, Fi, Fl, Fr, Ai, Al, Ar, Nx]
  congr
  funext b
  split <;> rfl
theorem rAi_rAi {h : Hp} {a : Nat} {f g : Nat → Int32} : rAi (rAi h a f) a g = rAi h a g := by
  unfold rAi
  simp only [Kd, Ln, Fi, Fl, Fr, Ai, Al, Ar, Nx]
  congr
  funext b
  split <;> rfl
/-! powers of two -/
theorem nI_shl {h : Nat} (hh : h ≤ 12) : nI 1 <<< (nI h &&& 31) = nI (2 ^ h) := by
  rcases (by omega : h = 0 ∨ h = 1 ∨ h = 2 ∨ h = 3 ∨ h = 4 ∨ h = 5 ∨ h = 6 ∨ h = 7 ∨ h = 8 ∨ h = 9 ∨ h = 10 ∨ h = 11 ∨ h = 12) with rfl | rfl | rfl | rfl | rfl | rfl | rfl | rfl | rfl | rfl | rfl | rfl | rfl <;> decide
theorem p2_le {h n : Nat} (hh : h ≤ n) (hn : n ≤ 10) : 2 ^ h ≤ 1024 := Nat.le_trans (Nat.pow_le_pow_right (by decide) (Nat.le_trans hh hn)) (by decide)
theorem nI_or {a h : Nat} (hh : h ≤ 12) (ha : a < 2 ^ h) : nI a ||| nI (2 ^ h) = nI (a + 2 ^ h) := by
  have e : a ||| 2 ^ h = a + 2 ^ h := by
    have := Nat.two_pow_add_eq_or_of_lt ha 1
    rw [Nat.mul_one] at this
    rw [Nat.or_comm, ← this, Nat.add_comm]
  have h12 : 2 ^ h ≤ 4096 := Nat.le_trans (Nat.pow_le_pow_right (by decide) hh) (by decide)
  apply Int32.toBitVec_inj.mp
  rw [i32_or]
  apply BitVec.eq_of_toNat_eq
  rw [BitVec.toNat_or, pk_tn (by omega), pk_tn (by omega), pk_tn (by omega), e]
/-! the odds of a set of fallen houses -/
def odS (T : Tw) (k : Nat) : Nat → Nat → Int64
  | 0, _ => lN 1
  | h + 1, set => if set < 2 ^ h then odS T k h set * (nI 10 - fallsP T h k).toInt64 else odS T k h (set - 2 ^ h) * (fallsP T h k).toInt64
theorem c_oddsBy {G : GG} {h : Hp} {m j s n k : Nat} {T : Tw} {x : Int32} (hM : MSh m h) (hT : MTw m h T s n k) (hj : j < k) (hx : x = nI j) : Ct G mX5_oddsBy 1 0 0 [.ref m, .int x] h (fun r h2 => r = none ∧ ∃ g, h2 = rAl h (m + 26) g ∧ ∀ set, set < 2 ^ n → g set = odS T j n set) nX := by
  have eN := hT.nH
  have hn := hT.n10
  refine Ct.mk ok_mX5_oddsBy ?_
  have outer : ∀ (r i : Nat) (y : Int32) (v3 v4 : Value) (g : Nat → Int64), i + r = n → y = nI i → (∀ set, set < 2 ^ i → g set = odS T j i set) → WW G mX5_oddsBy (rmO 1 0 0) h (fun r h2 => r = none ∧ ∃ g, h2 = rAl h (m + 26) g ∧ ∀ set, set < 2 ^ n → g set = odS T j n set) nX 9 [.ref m, .int x, .int y, v3, v4] [] (rAl h (m + 26) g) 0 0 := by
    intro r
    induction r with
    | zero =>
      intro i y v3 v4 g hr hy hg
      have hi : n = i := by omega
      subst hi
      refine blk kX5_oddsBy_9 ?_
      refine ⟨_, hM.1, rfl, ?_⟩
      refine br_t (by rw [hy]; exact Int32.le_of_eq eN) ?_
      refine blk kX5_oddsBy_83 ?_
      exact ⟨trivial, rfl, g, rfl, hg⟩
    | succ r ih =>
      intro i y v3 v4 g hr hy hg
      have hi : i < n := by omega
      refine blk kX5_oddsBy_9 ?_
      refine ⟨_, hM.1, rfl, ?_⟩
      refine br_f (by rw [hy]; rw [show Fi (rAl h (m + 26) g) 30 m = nI n from eN]; exact nI_ge hi (by omega)) ?_
      refine blk kX5_oddsBy_17 ?_
      refine callv_r hM.1 (c_fallsOf (h := rAl h (m + 26) g) hM hT hi hj hy hx) ?_
      have hp := p2_le (Nat.le_of_lt hi) hn
      have hp1 := p2_le (Nat.succ_le_of_lt hi) hn
      have hp2 : 2 ^ (i + 1) = 2 ^ i + 2 ^ i := by rw [Nat.pow_succ]; omega
      have inner : ∀ (q c : Nat) (z : Int32) (g2 : Nat → Int64), c + q = 2 ^ i → z = nI c → (∀ t, t < c → g2 t = odS T j (i + 1) t ∧ g2 (t + 2 ^ i) = odS T j (i + 1) (t + 2 ^ i)) → (∀ t, c ≤ t → t < 2 ^ i → g2 t = odS T j i t) → WW G mX5_oddsBy (rmO 1 0 0) h (fun r h2 => r = none ∧ ∃ g, h2 = rAl h (m + 26) g ∧ ∀ set, set < 2 ^ n → g set = odS T j n set) nX 27 [.ref m, .int x, .int y, .int (fallsP T i j), .int z] [] (rAl h (m + 26) g2) 0 0 := by
        intro q
        induction q with
        | zero =>
          intro c z g2 hq hz h1 h2
          refine blk kX5_oddsBy_27 ?_
          refine br_t (by dsimp only; rw [hy, nI_shl (by omega), hz]; exact nI_le (by omega) (by omega)) ?_
          refine blk kX5_oddsBy_77 ?_
          refine ih (i + 1) _ _ _ g2 (by omega) (by rw [hy]; exact nI_1 i) (fun t ht => ?_)
          by_cases hc : t < 2 ^ i
          · exact (h1 t (by omega)).1
          · have := (h1 (t - 2 ^ i) (by omega)).2
            rw [show t - 2 ^ i + 2 ^ i = t by omega] at this
            exact this
        | succ q ihq =>
          intro c z g2 hq hz h1 h2
          have hc : c < 2 ^ i := by omega
          refine blk kX5_oddsBy_27 ?_
          refine br_f (by dsimp only; rw [hy, nI_shl (by omega), hz]; exact nI_ge hc (by omega)) ?_
          have e1 : z ||| (nI 1 <<< (y &&& 31)) = nI (c + 2 ^ i) := by rw [hy, nI_shl (by omega), hz]; exact nI_or (by omega) hc
          refine blk kX5_oddsBy_35 ?_
          refine ⟨_, _, hM.1, rfl, hM.odds_.1, ?_⟩
          refine ⟨_, _, hM.1, rfl, hM.odds_.1, ?_⟩
          refine ⟨c, hM.odds_.2.1, hz, Nat.lt_of_lt_of_eq (by omega) hM.odds_.2.2.symm, ?_⟩
          refine ⟨c + 2 ^ i, hM.odds_.2.1, e1, Nat.lt_of_lt_of_eq (by omega) hM.odds_.2.2.symm, ?_⟩
          refine blk kX5_oddsBy_56 ?_
          refine ⟨_, _, hM.1, rfl, hM.odds_.1, ?_⟩
          refine ⟨c, hM.odds_.2.1, hz, Nat.lt_of_lt_of_eq (by omega) hM.odds_.2.2.symm, ?_⟩
          refine ⟨c, hM.odds_.2.1, hz, Nat.lt_of_lt_of_eq (by omega) hM.odds_.2.2.symm, ?_⟩
          rw [sAl_rAl, sAl_rAl, Al_rAl, Al_rAl]
          refine ihq (c + 1) _ _ (by omega) (by rw [hz]; exact nI_1 c) (fun t ht => ?_) (fun t h3 h4 => ?_)
          · have o1 : ∀ u, u < 2 ^ i → odS T j (i + 1) u = odS T j i u * (nI 10 - fallsP T i j).toInt64 := fun u hu => by simp only [odS]; rw [if_pos hu]
            have o2 : ∀ u, odS T j (i + 1) (u + 2 ^ i) = odS T j i u * (fallsP T i j).toInt64 := fun u => by simp only [odS]; rw [if_neg (by omega), Nat.add_sub_cancel]
            by_cases htc : t = c
            · subst htc
              refine ⟨?_, ?_⟩
              · rw [up1_ap, if_pos rfl, up1_ap, if_neg (by omega), h2 t (Nat.le_refl _) hc, o1 t hc]
              · rw [up1_ap, if_neg (by omega), up1_ap, if_pos rfl, h2 t (Nat.le_refl _) hc, o2 t]
            · obtain ⟨a1, a2⟩ := h1 t (by omega)
              refine ⟨?_, ?_⟩
              · rw [up1_ap, if_neg (by omega), up1_ap, if_neg (by omega), a1]
              · rw [up1_ap, if_neg (by omega), up1_ap, if_neg (by omega), a2]
          · rw [up1_ap, if_neg (by omega), up1_ap, if_neg (by omega), h2 t (by omega) h4]
      exact inner (2 ^ i) 0 _ g (by omega) rfl (fun t ht => absurd ht (by omega)) (fun t _ ht => hg t ht)
  refine blk kX5_oddsBy_0 ?_
  refine ⟨_, _, hM.1, rfl, hM.odds_.1, ?_⟩
  refine ⟨0, hM.odds_.2.1, rfl, Nat.lt_of_lt_of_eq (by omega) hM.odds_.2.2.symm, ?_⟩
  rw [sAl_r]
  exact outer n 0 _ _ _ _ (by omega) rfl (fun set hs => by
    have : set = 0 := by omega
    subst this
    rfl)
