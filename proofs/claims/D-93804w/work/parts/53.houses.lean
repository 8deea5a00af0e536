set_option maxRecDepth 100000
def hsS (C : Nat → Int32) : Nat → Nat → Tw → Nat → Tw × Nat
  | 0, _, T, c => (T, c)
  | q + 1, p, T, c => if nHo T = 10 ∨ ¬ inN (C p) 8 ∨ ¬ soP (C (p + 1)) (C (p + 2)) (C (p + 3)) (C (p + 4)) then (T, c) else hsS C q (p + 5) (adH T (nHo T) (C p) (C (p + 1)) (C (p + 2)) (C (p + 3)) (C (p + 4))) (c + 1)
def shC (σ : Sg) (i : Nat) : Nat → Int32 := fun j => (gC σ (120 * i + j)).toInt32
def oHouses (σ : Sg) (x i n : Int32) : Value × Sg := if wn σ x 1 = 0 then (if n < 0 then noI σ 4 else if i < 0 ∨ ¬ i ≤ gS σ 2 x.toNatClampNeg - n then noI σ 5 else if n - n / nI 5 * nI 5 = 0 then (.int (nI (hsS (shC σ x.toNatClampNeg) (n.toNatClampNeg / 5) i.toNatClampNeg (gT σ) 0).2), ((hsS (shC σ x.toNatClampNeg) (n.toNatClampNeg / 5) i.toNatClampNeg (gT σ) 0).1, σ.2)) else noI σ 6) else noI σ (wn σ x 1)
theorem sub_toInt {Z N : Nat} (hZ : Z ≤ 120) (hN : N < 2 ^ 31) : (nI Z - nI N).toInt = (Z : Int) - N := by
  rw [Int32.toInt_sub, nI_toInt (by omega), nI_toInt hN]
  exact Int.bmod_eq_of_le (by omega) (by omega)
theorem nat_of {x : Int32} (h : ¬ x < 0) : x = nI x.toNatClampNeg ∧ x.toNatClampNeg < 2 ^ 31 := by
  obtain ⟨j, hj, e⟩ := nI_of h
  rw [e, nI_clamp hj]
  exact ⟨rfl, hj⟩
theorem l_houses {G : GG} {h : Hp} {O : Option Value → Hp → Prop} {m I N Z sh : Nat} {σ : Sg} {x i n : Int32} {v4 : Int32} {C : Nat → Int32} {F : Tw × Nat} (hIN : I + N ≤ Z) (Z2 : Z < 121) (i1 : i = nI I) (n1 : n = nI N) (x1 : x = nI sh) (x2 : sh < 8) (eg : ∀ j, (gC σ (120 * sh + j)).toInt32 = C j) (fin : ∀ h', MRep m h' (F.1, σ.2) → O (some (.int (nI F.2))) h') : ∀ (q p : Nat) (z : Int32) (cn : Nat) (T : Tw) (h' : Hp), p + 5 * q = I + N → z = nI p → MRep m h' (T, σ.2) → hsS C q p T cn = F → WW G mX5_houses (rmO 2 0 0) h O nX 73 [.ref m, .int x, .int i, .int n, .int v4, .int (nI cn), .int z] [] h' 0 0 := by
  intro q
  induction q with
  | zero =>
    intro p z cn T h' hp hz r hF
    have hF : (T, cn) = F := hF
    refine blk kX5_houses_73 ?_
    refine br_t (by dsimp only; rw [hz, i1, n1, nI_add, nI_leI (by omega) (by omega)]; omega) ?_
    refine blk kX5_houses_207 ?_
    have fin := fin h'
    rw [← hF] at fin
    exact ⟨trivial, fin r⟩
  | succ q ih =>
    intro p z cn T h' hp hz r hF
    have hM := r.1
    obtain ⟨s, nn, k, t⟩ := r.tw
    have t : MTw m h' T s nn k := t
    have hn := t.n10
    have en := t.1.nHo_
    have hF : (if nHo T = 10 ∨ ¬ inN (C p) 8 ∨ ¬ soP (C (p + 1)) (C (p + 2)) (C (p + 3)) (C (p + 4)) then (T, cn) else hsS C q (p + 5) (adH T (nHo T) (C p) (C (p + 1)) (C (p + 2)) (C (p + 3)) (C (p + 4))) (cn + 1)) = F := hF
    rw [en] at hF
    have ix : ∀ d, z + nI d = nI (p + d) := fun d => by rw [hz]; exact nI_add p d
    have ci : ∀ {d : Nat} {y : Int32}, d < 5 → y = nI (p + d) → Ct G mX5_intAt 0 0 0 [.ref m, .int x, .int y] h' (Rv (some (.int (C (p + d)))) h') nX := by
      intro d y hd hy
      have := c_intAt (G := G) r x1 hy x2 (by omega)
      rw [show gC (T, σ.2) = gC σ from rfl, eg] at this
      exact this
    have out : (nn = 10 ∨ ¬ inN (C p) 8 ∨ ¬ soP (C (p + 1)) (C (p + 2)) (C (p + 3)) (C (p + 4))) → WW G mX5_houses (rmO 2 0 0) h O nX 147 [.ref m, .int x, .int i, .int n, .int v4, .int (nI cn), .int z] [] h' 0 0 := by
      intro c
      rw [if_pos c] at hF
      refine blk kX5_houses_147 ?_
      have fin := fin h'
      rw [← hF] at fin
      exact ⟨trivial, fin r⟩
    refine blk kX5_houses_73 ?_
    refine br_f (by dsimp only; rw [hz, i1, n1, nI_add, nI_leI (by omega) (by omega)]; omega) ?_
    refine blk kX5_houses_81 ?_
    refine ⟨_, hM.1, rfl, ?_⟩
    refine br_c (fun c7 => ?_) (fun c7 => ?_)
    · have c7 : Fi h' 30 m = nI 10 := c7
      rw [t.nH, nI_eq (by omega) (by decide)] at c7
      exact out (Or.inl c7)
    · have c7 : ¬ Fi h' 30 m = nI 10 := c7
      rw [t.nH, nI_eq (by omega) (by decide)] at c7
      refine blk kX5_houses_90 ?_
      refine callv_r hM.1 (ci (d := 0) (by decide) (by rw [hz]; rfl)) ?_
      refine callv_r hM.1 (c_isCorner hM t) ?_
      refine br_c (fun c8 => ?_) (fun c8 => ?_)
      · exact out (Or.inr (Or.inl (bI_eq c8)))
      · have c8 : inN (C p) 8 := bI_ne c8
        refine blk kX5_houses_104 ?_
        refine callv_r hM.1 (ci (d := 1) (by decide) (ix 1)) ?_
        refine callv_r hM.1 (ci (d := 2) (by decide) (ix 2)) ?_
        refine callv_r hM.1 (ci (d := 3) (by decide) (ix 3)) ?_
        refine callv_r hM.1 (ci (d := 4) (by decide) (ix 4)) ?_
        refine callv_r hM.1 (c_isSo) ?_
        refine brn_c (fun c9 => ?_) (fun c9 => ?_)
        · have c9 := bI_ne c9
          obtain ⟨g1, g2, g3, g4⟩ := soP.rg c9
          rw [if_neg (fun q => q.elim c7 (fun q => q.elim (fun z => z c8) (fun z => z c9)))] at hF
          refine blk kX5_houses_150 ?_
          refine callv_r hM.1 (ci (d := 0) (by decide) (by rw [hz]; rfl)) ?_
          refine callv_r hM.1 (ci (d := 1) (by decide) (ix 1)) ?_
          refine callv_r hM.1 (ci (d := 2) (by decide) (ix 2)) ?_
          refine callv_r hM.1 (ci (d := 3) (by decide) (ix 3)) ?_
          refine callv_r hM.1 (ci (d := 4) (by decide) (ix 4)) ?_
          refine callv_g hM.1 (c_comes hM t (by omega) (corner_rg c8) g1 g2 g3 g4) (fun r1 h1 hO => ?_)
          obtain ⟨rfl, f, t2⟩ := hO
          refine ⟨rfl, ?_⟩
          have r2 : MRep m h1 (adH T nn (C p) (C (p + 1)) (C (p + 2)) (C (p + 3)) (C (p + 4)), σ.2) := r.tk (f.tk rfl rfl rfl) t2
          have key := ih (p + 5) (z + nI 5) (cn + 1) _ h1 (by omega) (ix 5) r2 hF
          rw [← nI_add cn 1] at key
          exact key
        · exact out (Or.inr (Or.inr (bI_eq c9)))
theorem o_houses {G : GG} {h : Hp} {m : Nat} {σ : Sg} {x i n : Int32} (r : MRep m h σ) : Ct G mX5_houses 2 0 0 [.ref m, .int x, .int i, .int n] h (PO m (oHouses σ x i n)) nX := by
  have hM := r.1
  refine Ct.mk ok_mX5_houses ?_
  refine blk kX5_houses_0 ?_
  refine callv_r hM.1 (c_wants r) ?_
  rw [show wnt σ x (nI 1) = -(nI (wn σ x 1)) from wnt_wn]
  unfold oHouses
  refine br_c (fun c1 => ?_) (fun c1 => ?_)
  · have c1 := (wn_eq wn_lt).mp c1
    rw [if_pos c1]
    obtain ⟨d1, d2, d3⟩ := wn_ok c1 r.sok (Or.inl rfl)
    obtain ⟨x1, x2⟩ := inN_ix d1 (by decide)
    obtain ⟨Z1, Z2⟩ := (d3.row d2).2.ix (N := 121) (by decide)
    have e2 := r.2.2.2.1 2 _ (by decide) x2
    generalize (gS σ 2 x.toNatClampNeg).toNatClampNeg = Z at *
    rw [Z1] at e2 ⊢
    generalize -(nI (wn σ x 1)) = v4
    refine blk kX5_houses_20 ?_
    refine br_c (fun c2 => ?_) (fun c2 => ?_)
    · have c2 : ¬ n < 0 := Int32.not_lt.mpr c2
      obtain ⟨n1, n2⟩ := nat_of c2
      rw [if_neg c2]
      generalize n.toNatClampNeg = N at *
      have bad : (i < 0 ∨ ¬ i ≤ nI Z - n) → WW G mX5_houses (rmO 2 0 0) h (PO m (if i < 0 ∨ ¬ i ≤ nI Z - n then noI σ 5 else if n - n / nI 5 * nI 5 = 0 then (.int (nI (hsS (shC σ x.toNatClampNeg) (N / 5) i.toNatClampNeg (gT σ) 0).2), ((hsS (shC σ x.toNatClampNeg) (N / 5) i.toNatClampNeg (gT σ) 0).1, σ.2)) else noI σ 6)) nX 47 [.ref m, .int x, .int i, .int n, .int v4, dV, dV] [] h 0 0 := by
        intro c
        rw [if_pos c]
        refine blk kX5_houses_47 ?_
        refine callv_g hM.1 (no_PO (k := 5) r (by decide) rfl) (fun r1 h1 hO => ?_)
        obtain ⟨rfl, hr⟩ := hO
        exact ⟨trivial, rfl, hr⟩
      refine blk kX5_houses_31 ?_
      refine br_c (fun c3 => bad (Or.inl c3)) (fun c3 => ?_)
      have c3 : ¬ i < 0 := c3
      refine blk kX5_houses_35 ?_
      refine ⟨_, _, hM.1, rfl, hM.size_.1, ?_⟩
      refine ⟨_, _, hM.size_.2.1, Or.inl rfl, x1, Nat.lt_of_lt_of_eq (by omega) hM.size_.2.2.symm, ?_⟩
      refine br_c (fun c4 => ?_) (fun c4 => ?_)
      · have c4 : i ≤ Ai h (m + 17) x.toNatClampNeg - n := c4
        rw [e2] at c4
        rw [if_neg (fun q => q.elim c3 (fun z => z c4))]
        obtain ⟨i1, i2⟩ := nat_of c3
        generalize i.toNatClampNeg = I at *
        have hIN : I + N ≤ Z := by
          have := Int32.le_iff_toInt_le.mp c4
          rw [i1, n1, sub_toInt (by omega) n2, nI_toInt i2] at this
          omega
        have er : n - n / nI 5 * nI 5 = nI (N % 5) := by rw [n1]; exact pk_rem n2 (by decide) (by decide)
        rw [er]
        refine blk kX5_houses_54 ?_
        refine ⟨by decide, ?_⟩
        refine br_c (fun c5 => ?_) (fun c5 => ?_)
        · have c5 : n - n / nI 5 * nI 5 = 0 := c5
          rw [er] at c5
          rw [if_pos c5]
          have c6 : N % 5 = 0 := (nI_eq (by omega) (by decide)).mp c5
          generalize eC : shC σ x.toNatClampNeg = C
          obtain ⟨F, eF⟩ : ∃ F, F = hsS C (N / 5) I (gT σ) 0 := ⟨_, rfl⟩
          rw [← eF]
          have eg : ∀ j, (gC σ (120 * x.toNatClampNeg + j)).toInt32 = C j := fun j => by rw [← eC]; rfl
          refine blk kX5_houses_67 ?_
          exact l_houses (σ := σ) hIN (by omega) i1 n1 x1 x2 eg (fun h' r => ⟨rfl, r⟩) (N / 5) I _ 0 (gT σ) h (by omega) i1 r eF.symm
        · have c5 : ¬ n - n / nI 5 * nI 5 = 0 := c5
          rw [er] at c5
          rw [if_neg c5]
          refine blk kX5_houses_60 ?_
          refine callv_g hM.1 (no_PO (k := 6) r (by decide) rfl) (fun r1 h1 hO => ?_)
          obtain ⟨rfl, hr⟩ := hO
          exact ⟨trivial, rfl, hr⟩
      · have c4 : ¬ i ≤ Ai h (m + 17) x.toNatClampNeg - n := c4
        rw [e2] at c4
        exact bad (Or.inr c4)
    · have c2 : n < 0 := Int32.not_le.mp c2
      rw [if_pos c2]
      refine blk kX5_houses_24 ?_
      refine callv_g hM.1 (no_PO (k := 4) r (by decide) rfl) (fun r1 h1 hO => ?_)
      obtain ⟨rfl, hr⟩ := hO
      exact ⟨trivial, rfl, hr⟩
  · have c1 : ¬ wn σ x 1 = 0 := fun q => c1 ((wn_eq wn_lt).mpr q)
    rw [if_neg c1]
    refine blk kX5_houses_13 ?_
    refine callv_g hM.1 (no_PO (k := wn σ x 1) r wn_lt rfl) (fun r1 h1 hO => ?_)
    obtain ⟨rfl, hr⟩ := hO
    exact ⟨trivial, rfl, hr⟩
