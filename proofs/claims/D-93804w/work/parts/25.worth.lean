set_option maxRecDepth 100000
def pplP (T : Tw) (i : Nat) (hour : Int32) : Int32 := if hour = 0 then T.2 6 i else if hour = nI 1 then T.2 7 i else T.1 5 * T.2 6 i + (nI 10 - T.1 5) * T.2 7 i
theorem c_people {G : GG} {h : Hp} {m i s n k : Nat} {T : Tw} {x y : Int32} (hM : MSh m h) (hT : MTw m h T s n k) (hi : i < n) (hx : x = nI i) : Ct G mX5_people 0 0 0 [.ref m, .int x, .int y] h (Rv (some (.int (pplP T i y))) h) nX := by
  have hn := hT.n10
  have e6 := hT.day_ hi
  have e7 := hT.night_ hi
  have e5 := hT.daypart_
  refine Ct.mk ok_mX5_people ?_
  unfold pplP
  refine blk kX5_people_0 ?_
  refine brn_c (fun c1 => ?_) (fun c1 => ?_)
  · have c1 : ¬ y = 0 := c1
    refine blk kX5_people_13 ?_
    refine brn_c (fun c2 => ?_) (fun c2 => ?_)
    · have c2 : ¬ y = nI 1 := c2
      rw [if_neg c1, if_neg c2]
      refine blk kX5_people_27 ?_
      refine ⟨_, hM.1, rfl, ?_⟩
      refine ⟨_, _, hM.1, rfl, hM.day_.1, ?_⟩
      refine ⟨i, _, hM.day_.2.1, Or.inl rfl, hx, Nat.lt_of_lt_of_eq (by omega) hM.day_.2.2.symm, ?_⟩
      refine ⟨_, hM.1, rfl, ?_⟩
      refine ⟨_, _, hM.1, rfl, hM.night_.1, ?_⟩
      refine ⟨i, _, hM.night_.2.1, Or.inl rfl, hx, Nat.lt_of_lt_of_eq (by omega) hM.night_.2.2.symm, ?_⟩
      refine blk kX5_people_53 ?_
      exact ⟨trivial, by dsimp only; rw [e5, e6, e7], rfl⟩
    · have c2 : y = nI 1 := c2
      rw [if_neg c1, if_pos c2]
      refine blk kX5_people_18 ?_
      refine ⟨_, _, hM.1, rfl, hM.night_.1, ?_⟩
      refine ⟨i, _, hM.night_.2.1, Or.inl rfl, hx, Nat.lt_of_lt_of_eq (by omega) hM.night_.2.2.symm, ?_⟩
      refine blk kX5_people_53 ?_
      exact ⟨trivial, by rw [e7], rfl⟩
  · have c1 : y = 0 := c1
    rw [if_pos c1]
    refine blk kX5_people_4 ?_
    refine ⟨_, _, hM.1, rfl, hM.day_.1, ?_⟩
    refine ⟨i, _, hM.day_.2.1, Or.inl rfl, hx, Nat.lt_of_lt_of_eq (by omega) hM.day_.2.2.symm, ?_⟩
    refine blk kX5_people_53 ?_
    exact ⟨trivial, by rw [e6], rfl⟩
/-- what a set of fallen houses is worth -/
def woS (T : Tw) (hour cut set : Int32) : Nat → Int64
  | 0 => lN 0
  | i + 1 => if bitP set (nI i) then woS T hour cut set i + lN 10 * (pplP T i hour).toInt64 else if bitP cut (T.2 4 i) then woS T hour cut set i + (T.1 4).toInt64 * (pplP T i hour).toInt64 else woS T hour cut set i
def cgt (T : Tw) (caught : Int32) (set : Int32) (s n : Nat) : Int32 := if caught = 0 then nI 0 else cutP T set s n
def wrP (T : Tw) (hour caught : Int32) (s n : Nat) (set : Nat) : Int64 := woS T hour (cgt T caught (nI set) s n) (nI set) n
theorem c_worthsBy {G : GG} {h : Hp} {m s n k : Nat} {T : Tw} {hour caught : Int32} (hM : MSh m h) (hT : MTw m h T s n k) : Ct G mX5_worthsBy 1 0 0 [.ref m, .int hour, .int caught] h (fun r h2 => r = none ∧ ∃ g, h2 = rAl h (m + 27) g ∧ ∀ set, set < 2 ^ n → g set = wrP T hour caught s n set) nX := by
  have eN := hT.nH
  have hn := hT.n10
  have eU := hT.shut_
  have hp := p2_le (Nat.le_refl n) hn
  refine Ct.mk ok_mX5_worthsBy ?_
  have outer : ∀ (r c : Nat) (z : Int32) (v4 v5 v6 v7 : Value) (g : Nat → Int64), c + r = 2 ^ n → z = nI c → (∀ t, t < c → g t = wrP T hour caught s n t) → WW G mX5_worthsBy (rmO 1 0 0) h (fun r h2 => r = none ∧ ∃ g, h2 = rAl h (m + 27) g ∧ ∀ set, set < 2 ^ n → g set = wrP T hour caught s n set) nX 2 [.ref m, .int hour, .int caught, .int z, v4, v5, v6, v7] [] (rAl h (m + 27) g) 0 0 := by
    intro r
    induction r with
    | zero =>
      intro c z v4 v5 v6 v7 g hr hz hg
      refine blk kX5_worthsBy_2 ?_
      refine ⟨_, hM.1, rfl, ?_⟩
      refine br_t (by dsimp only; rw [show Fi (rAl h (m + 27) g) 30 m = nI n from eN, nI_shl (by omega), hz]; exact nI_le (by omega) (by omega)) ?_
      refine blk kX5_worthsBy_127 ?_
      exact ⟨trivial, rfl, g, rfl, fun t ht => hg t (by omega)⟩
    | succ r ih =>
      intro c z v4 v5 v6 v7 g hr hz hg
      have hc : c < 2 ^ n := by omega
      refine blk kX5_worthsBy_2 ?_
      refine ⟨_, hM.1, rfl, ?_⟩
      refine br_f (by dsimp only; rw [show Fi (rAl h (m + 27) g) 30 m = nI n from eN, nI_shl (by omega), hz]; exact nI_ge hc (by omega)) ?_
      have rest : ∀ (cut : Int32), cut = cgt T caught (nI c) s n → WW G mX5_worthsBy (rmO 1 0 0) h (fun r h2 => r = none ∧ ∃ g, h2 = rAl h (m + 27) g ∧ ∀ set, set < 2 ^ n → g set = wrP T hour caught s n set) nX 25 [.ref m, .int hour, .int caught, .int z, v4, v5, v6, v7] [.int cut] (rAl h (m + 27) g) 0 0 := by
        intro cut hcut
        refine blk kX5_worthsBy_25 ?_
        have inner : ∀ (q i : Nat) (y : Int32) (sum : Int64), i + q = n → y = nI i → sum = woS T hour cut (nI c) i → WW G mX5_worthsBy (rmO 1 0 0) h (fun r h2 => r = none ∧ ∃ g, h2 = rAl h (m + 27) g ∧ ∀ set, set < 2 ^ n → g set = wrP T hour caught s n set) nX 33 [.ref m, .int hour, .int caught, .int z, .int cut, .long sum, dV, .int y] [] (rAl h (m + 27) g) 0 0 := by
          intro q
          induction q with
          | zero =>
            intro i y sum hq hy hs
            have hi : n = i := by omega
            subst hi
            refine blk kX5_worthsBy_33 ?_
            refine ⟨_, hM.1, rfl, ?_⟩
            refine br_t (by rw [hy]; exact Int32.le_of_eq eN) ?_
            refine blk kX5_worthsBy_113 ?_
            refine ⟨_, _, hM.1, rfl, hM.worths_.1, ?_⟩
            refine ⟨c, hM.worths_.2.1, hz, Nat.lt_of_lt_of_eq (by omega) hM.worths_.2.2.symm, ?_⟩
            rw [sAl_rAl]
            refine ih (c + 1) _ _ _ _ _ _ (by omega) (by rw [hz]; exact nI_1 c) (fun t ht => ?_)
            rw [up1_ap]
            split
            · rename_i e
              subst e
              rw [hs, hcut]
              rfl
            · exact hg t (by omega)
          | succ q ihq =>
            intro i y sum hq hy hs
            have hi : i < n := by omega
            refine blk kX5_worthsBy_33 ?_
            refine ⟨_, hM.1, rfl, ?_⟩
            refine br_f (by rw [hy]; rw [show Fi (rAl h (m + 27) g) 30 m = nI n from eN]; exact nI_ge hi (by omega)) ?_
            have nxt : ∀ (s2 : Int64), s2 = woS T hour cut (nI c) (i + 1) → WW G mX5_worthsBy (rmO 1 0 0) h (fun r h2 => r = none ∧ ∃ g, h2 = rAl h (m + 27) g ∧ ∀ set, set < 2 ^ n → g set = wrP T hour caught s n set) nX 107 [.ref m, .int hour, .int caught, .int z, .int cut, .long s2, dV, .int y] [] (rAl h (m + 27) g) 0 0 := by
              intro s2 h2
              refine blk kX5_worthsBy_107 ?_
              exact ihq (i + 1) _ _ (by omega) (by rw [hy]; exact nI_1 i) h2
            refine blk kX5_worthsBy_42 ?_
            refine brn_c (fun c1 => ?_) (fun c1 => ?_)
            · have c1 : ¬ (z >>> (y &&& 31)) &&& nI 1 = nI 1 := c1
              rw [hz, hy] at c1
              refine blk kX5_worthsBy_72 ?_
              refine ⟨_, _, hM.1, rfl, hM.corner_.1, ?_⟩
              refine ⟨i, _, hM.corner_.2.1, Or.inl rfl, hy, Nat.lt_of_lt_of_eq (by omega) hM.corner_.2.2.symm, ?_⟩
              refine brn_c (fun c2 => ?_) (fun c2 => ?_)
              · have c2 : ¬ (cut >>> (Ai h (m + 6) i &&& 31)) &&& nI 1 = nI 1 := c2
                rw [hT.corner_ hi] at c2
                refine nxt _ ?_
                rw [hs]
                simp only [woS]
                rw [bitP_f c1, bitP_f c2]
                rfl
              · have c2 : (cut >>> (Ai h (m + 6) i &&& 31)) &&& nI 1 = nI 1 := c2
                rw [hT.corner_ hi] at c2
                refine blk kX5_worthsBy_88 ?_
                refine ⟨_, hM.1, rfl, ?_⟩
                refine callv_r hM.1 (c_people (h := rAl h (m + 27) g) hM hT hi hy) ?_
                refine nxt _ ?_
                rw [hs]
                simp only [woS]
                rw [bitP_f c1, bitP_t c2, show Fi (rAl h (m + 27) g) 33 m = T.1 4 from eU]
                rfl
            · have c1 : (z >>> (y &&& 31)) &&& nI 1 = nI 1 := c1
              rw [hz, hy] at c1
              refine blk kX5_worthsBy_52 ?_
              refine callv_r hM.1 (c_people (h := rAl h (m + 27) g) hM hT hi hy) ?_
              refine nxt _ ?_
              rw [hs]
              simp only [woS]
              rw [bitP_t c1]
              rfl
        exact inner n 0 _ _ (by omega) rfl rfl
      refine blk kX5_worthsBy_12 ?_
      refine br_c (fun c1 => ?_) (fun c1 => ?_)
      · refine blk kX5_worthsBy_24 ?_
        exact rest _ (by unfold cgt; rw [if_pos c1])
      · refine blk kX5_worthsBy_16 ?_
        refine callv_r hM.1 (c_cutOf (h := rAl h (m + 27) g) hM hT) ?_
        exact rest _ (by unfold cgt; rw [if_neg c1, hz])
  refine blk kX5_worthsBy_0 ?_
  have key := outer (2 ^ n) 0 _ dV dV dV dV (Al h (m + 27)) (by omega) rfl (fun t ht => absurd ht (by omega))
  rw [rAl_self] at key
  exact key
/-- sums over sets -/
def smS (f : Nat → Int64) : Nat → Int64
  | 0 => lN 0
  | j + 1 => smS f j + f j
theorem smS_congr {f g : Nat → Int64} : ∀ n, (∀ j, j < n → f j = g j) → smS f n = smS g n
  | 0, _ => rfl
  | n + 1, h => by simp only [smS]; rw [smS_congr n (fun j hj => h j (by omega)), h n (by omega)]
def loP (T : Tw) (j n : Nat) (w : Nat → Int64) : Int64 := smS (fun set => odS T j n set * w set) (2 ^ n)
theorem c_lostBy {G : GG} {h : Hp} {m j s n k : Nat} {T : Tw} {x : Int32} {w : Nat → Int64} (hM : MSh m h) (hT : MTw m h T s n k) (hj : j < k) (hx : x = nI j) (hw : ∀ set, set < 2 ^ n → Al h (m + 27) set = w set) : Ct G mX5_lostBy 2 0 0 [.ref m, .int x] h (fun r h2 => r = some (.long (loP T j n w)) ∧ ∃ g, h2 = rAl h (m + 26) g) nX := by
  have eN := hT.nH
  have hn := hT.n10
  have hp := p2_le (Nat.le_refl n) hn
  refine Ct.mk ok_mX5_lostBy ?_
  refine blk kX5_lostBy_0 ?_
  refine callv_g hM.1 (c_oddsBy hM hT hj hx) (fun r1 h1 hO => ?_)
  obtain ⟨rfl, g, rfl, hg⟩ := hO
  have loop : ∀ (r c : Nat) (z : Int32) (sum : Int64), c + r = 2 ^ n → z = nI c → sum = smS (fun set => odS T j n set * w set) c → WW G mX5_lostBy (rmO 2 0 0) h (fun r h2 => r = some (.long (loP T j n w)) ∧ ∃ g, h2 = rAl h (m + 26) g) nX 10 [.ref m, .int x, .long sum, dV, .int z] [] (rAl h (m + 26) g) 0 0 := by
    intro r
    induction r with
    | zero =>
      intro c z sum hr hz hs
      have hc : c = 2 ^ n := by omega
      refine blk kX5_lostBy_10 ?_
      refine ⟨_, hM.1, rfl, ?_⟩
      refine br_t (by dsimp only; rw [show Fi (rAl h (m + 26) g) 30 m = nI n from eN, nI_shl (by omega), hz]; exact nI_le (by omega) (by omega)) ?_
      refine blk kX5_lostBy_45 ?_
      exact ⟨trivial, by rw [hs, hc]; rfl, g, rfl⟩
    | succ r ih =>
      intro c z sum hr hz hs
      have hc : c < 2 ^ n := by omega
      refine blk kX5_lostBy_10 ?_
      refine ⟨_, hM.1, rfl, ?_⟩
      refine br_f (by dsimp only; rw [show Fi (rAl h (m + 26) g) 30 m = nI n from eN, nI_shl (by omega), hz]; exact nI_ge hc (by omega)) ?_
      refine blk kX5_lostBy_21 ?_
      refine ⟨_, _, hM.1, rfl, hM.odds_.1, ?_⟩
      refine ⟨c, hM.odds_.2.1, hz, Nat.lt_of_lt_of_eq (by omega) hM.odds_.2.2.symm, ?_⟩
      refine ⟨_, _, hM.1, rfl, hM.worths_.1, ?_⟩
      refine ⟨c, hM.worths_.2.1, hz, Nat.lt_of_lt_of_eq (by omega) hM.worths_.2.2.symm, ?_⟩
      rw [Al_rAl, Al_rAl_ne (by omega), hg c hc, hw c hc]
      exact ih (c + 1) _ _ (by omega) (by rw [hz]; exact nI_1 c) (by rw [hs]; rfl)
  exact loop (2 ^ n) 0 _ _ (by omega) rfl rfl
/-- the mean of a year -/
def meS (T : Tw) (n : Nat) (w : Nat → Int64) : Nat → Int64
  | 0 => lN 0
  | j + 1 => if T.2 2 j ≤ 0 then meS T n w j else meS T n w j + (T.2 2 j).toInt64 * loP T j n w
theorem c_meanNow {G : GG} {h : Hp} {m s n k : Nat} {T : Tw} {w : Nat → Int64} (hM : MSh m h) (hT : MTw m h T s n k) (hw : ∀ set, set < 2 ^ n → Al h (m + 27) set = w set) : Ct G mX5_meanNow 3 0 0 [.ref m] h (fun r h2 => r = some (.long (meS T n w k)) ∧ ∃ g, h2 = rAl h (m + 26) g) nX := by
  have eK := hT.nK
  have hk4 := hT.k4
  refine Ct.mk ok_mX5_meanNow ?_
  have loop : ∀ (r c : Nat) (z : Int32) (sum : Int64) (g : Nat → Int64), c + r = k → z = nI c → sum = meS T n w c → WW G mX5_meanNow (rmO 3 0 0) h (fun r h2 => r = some (.long (meS T n w k)) ∧ ∃ g, h2 = rAl h (m + 26) g) nX 4 [.ref m, .long sum, dV, .int z] [] (rAl h (m + 26) g) 0 0 := by
    intro r
    induction r with
    | zero =>
      intro c z sum g hr hz hs
      have hc : k = c := by omega
      subst hc
      refine blk kX5_meanNow_4 ?_
      refine ⟨_, hM.1, rfl, ?_⟩
      refine br_t (by rw [hz]; exact Int32.le_of_eq eK) ?_
      refine blk kX5_meanNow_43 ?_
      exact ⟨trivial, by rw [hs], g, rfl⟩
    | succ r ih =>
      intro c z sum g hr hz hs
      have hc : c < k := by omega
      refine blk kX5_meanNow_4 ?_
      refine ⟨_, hM.1, rfl, ?_⟩
      refine br_f (by rw [hz]; rw [show Fi (rAl h (m + 26) g) 31 m = nI k from eK]; exact nI_ge hc (by omega)) ?_
      have nxt : ∀ (s2 : Int64) (g : Nat → Int64), s2 = meS T n w (c + 1) → WW G mX5_meanNow (rmO 3 0 0) h (fun r h2 => r = some (.long (meS T n w k)) ∧ ∃ g, h2 = rAl h (m + 26) g) nX 37 [.ref m, .long s2, dV, .int z] [] (rAl h (m + 26) g) 0 0 := by
        intro s2 g h2
        refine blk kX5_meanNow_37 ?_
        exact ih (c + 1) _ _ _ (by omega) (by rw [hz]; exact nI_1 c) h2
      refine blk kX5_meanNow_12 ?_
      refine ⟨_, _, hM.1, rfl, hM.chance_.1, ?_⟩
      refine ⟨c, _, hM.chance_.2.1, Or.inl rfl, hz, Nat.lt_of_lt_of_eq (by omega) hM.chance_.2.2.symm, ?_⟩
      refine br_c (fun c1 => ?_) (fun c1 => ?_)
      · have c1 : Ai h (m + 4) c ≤ 0 := c1
        rw [hT.chance_ hc] at c1
        refine nxt _ _ ?_
        rw [hs]
        simp only [meS]
        rw [if_pos c1]
      · have c1 : ¬ Ai h (m + 4) c ≤ 0 := c1
        rw [hT.chance_ hc] at c1
        refine blk kX5_meanNow_21 ?_
        refine ⟨_, _, hM.1, rfl, hM.chance_.1, ?_⟩
        refine ⟨c, _, hM.chance_.2.1, Or.inl rfl, hz, Nat.lt_of_lt_of_eq (by omega) hM.chance_.2.2.symm, ?_⟩
        refine callv_g hM.1 (c_lostBy (h := rAl h (m + 26) g) (w := w) hM hT hc hz (fun set hs => by rw [Al_rAl_ne (by omega)]; exact hw set hs)) (fun r1 h1 hO => ?_)
        obtain ⟨rfl, g2, rfl⟩ := hO
        rw [rAl_rAl]
        refine nxt _ _ ?_
        rw [hs, show Ai (rAl h (m + 26) g) (m + 4) c = T.2 2 c from hT.chance_ hc]
        simp only [meS]
        rw [if_neg c1]
  refine blk kX5_meanNow_0 ?_
  have key := loop k 0 _ _ (Al h (m + 26)) (by omega) rfl rfl
  rw [rAl_self] at key
  exact key
theorem c_meanOf {G : GG} {h : Hp} {m s n k : Nat} {T : Tw} (hM : MSh m h) (hT : MTw m h T s n k) : Ct G mX5_meanOf 4 0 0 [.ref m] h (fun r h2 => r = some (.long (meS T n (wrP T (nI 2) (nI 1) s n) k)) ∧ ∃ g g', h2 = rAl (rAl h (m + 27) g) (m + 26) g') nX := by
  refine Ct.mk ok_mX5_meanOf ?_
  refine blk kX5_meanOf_0 ?_
  refine callv_g hM.1 (c_worthsBy hM hT) (fun r1 h1 hO => ?_)
  obtain ⟨rfl, g, rfl, hg⟩ := hO
  refine callv_g hM.1 (c_meanNow (h := rAl h (m + 27) g) (w := wrP T (nI 2) (nI 1) s n) hM hT (fun set hs => by rw [Al_rAl]; exact hg set hs)) (fun r1 h1 hO => ?_)
  obtain ⟨rfl, g2, rfl⟩ := hO
  exact ⟨trivial, rfl, g, g2, rfl⟩
theorem c_mean {G : GG} {h : Hp} {m s n k : Nat} {T : Tw} (hM : MSh m h) (hT : MTw m h T s n k) : Ct G mX5_mean 5 0 0 [.ref m] h (fun r h2 => r = some (.long (meS T n (wrP T (nI 2) (nI 1) s n) k)) ∧ ∃ g g', h2 = rAl (rAl h (m + 27) g) (m + 26) g') nX := by
  refine Ct.mk ok_mX5_mean ?_
  refine blk kX5_mean_0 ?_
  refine callv_g hM.1 (c_meanOf hM hT) (fun r1 h1 hO => ?_)
  obtain ⟨rfl, g, g2, rfl⟩ := hO
  exact ⟨trivial, rfl, g, g2, rfl⟩
