set_option maxRecDepth 100000
theorem c_allI2 {G : GG} {h : Hp} {m o : Nat} (hM : MSh m h) (kq : Kd h (m + o) = 101) (lq : Ln h (m + o) = 150) (ho : 15 ≤ o) : Ct G mX5_all 1 0 0 [.ref m, .ref (m + o), .int (nI 0)] h (fun r h2 => r = none ∧ FQ m [o] [] [] h h2 ∧ Ai h2 (m + o) = kept h m (Ai h (m + o))) nX :=
  Ct.weak (c_allI hM kq lq (fun a ha => by omega)) (fun r h2 e => by rw [e.1, e.2]; exact ⟨rfl, FQ.rAi (by simp), Ai_rAi⟩)
abbrev aL : List Nat := [2, 3, 4, 5, 6, 7, 8, 9, 10, 11, 12, 13, 14]
abbrev nL : List Nat := [29, 30, 31, 32, 33, 34, 35, 36, 37, 38]
theorem c_allB2 {G : GG} {h : Hp} {m o : Nat} (hM : MSh m h) (kq : Kd h (m + o) = 101) (lq : Ln h (m + o) = 150) (ho : 15 ≤ o) : Ct G mX5_all 1 0 0 [.ref m, .ref (m + o), .int (nI 1)] h (fun r h2 => r = none ∧ FQ m aL [] nL h h2 ∧ (∀ b, b < 13 → Ai h2 (m + (2 + b)) = bkF (Ai h (m + (2 + b))) (Ai h (m + o)) (koff b) (lnS b)) ∧ ∀ j, j < 10 → Fi h2 (29 + j) m = Ai h (m + o) (122 + j)) nX :=
  Ct.weak (c_allB hM kq lq (fun a ha => by omega)) (fun r h2 e => by
    rw [e.1, e.2]
    have k1 := bkH_sk h m (m + o) 13
    have k2 := bkN_sk (bkH h m (m + o) 13) m (fun j => Ai h (m + o) (122 + j)) 10
    refine ⟨rfl, ⟨⟨?_, ?_, ?_, ?_, ?_⟩, fun f hf => ?_, fun b hb => ?_, fun b hb => ?_⟩, fun b hb => ?_, fun j hj => ?_⟩
    · exact k2.1.1.trans k1.1.1
    · exact k2.1.2.1.trans k1.1.2.1
    · exact k2.1.2.2.1.trans k1.1.2.2.1
    · exact k2.1.2.2.2.1.trans k1.1.2.2.2.1
    · exact k2.1.2.2.2.2.trans k1.1.2.2.2.2
    · unfold broughtBack
      rw [bkN_off 10 (fun i hi e => hf (by subst e; rcases (by omega : i = 0 ∨ i = 1 ∨ i = 2 ∨ i = 3 ∨ i = 4 ∨ i = 5 ∨ i = 6 ∨ i = 7 ∨ i = 8 ∨ i = 9) with q | q | q | q | q | q | q | q | q | q <;> subst q <;> decide)), k1.2.1]
    · unfold broughtBack
      rw [k2.2.1, bkH_off 13 (fun i hi e => hb (by (have : b = 2 + i := by omega); subst this; rcases (by omega : i = 0 ∨ i = 1 ∨ i = 2 ∨ i = 3 ∨ i = 4 ∨ i = 5 ∨ i = 6 ∨ i = 7 ∨ i = 8 ∨ i = 9 ∨ i = 10 ∨ i = 11 ∨ i = 12) with q | q | q | q | q | q | q | q | q | q | q | q | q <;> subst q <;> decide))]
    · unfold broughtBack
      rw [k2.2.2, k1.2.2]
    · unfold broughtBack
      rw [k2.2.1, bkH_on (fun a ha => by omega) 13 (Nat.le_refl _) hb]
    · unfold broughtBack
      rw [bkN_on 10 hj])
theorem MTw.setS_ {m j : Nat} {h : Hp} {T : Tw} {s n k : Nat} {v : Int32} (t : MTw m h T s n k) (hj : 6 ≤ j) : MTw m (sFi h (29 + j) m v) (setS T j v) s n k := by
  refine ⟨?_, fun i hi => ?_, t.2.2⟩
  · have e : ∀ i, i < 6 → (setS T j v).1 i = T.1 i := fun i hi => by
      show up1 T.1 j v i = _
      rw [up1_ap, if_neg (by omega)]
    have t1 := t.1
    unfold TOK at t1 ⊢
    rw [e 0 (by decide), e 1 (by decide), e 2 (by decide), e 3 (by decide), e 4 (by decide), e 5 (by decide)]
    exact t1
  · show up2 (Fi h) (29 + j) m v (29 + i) m = up1 T.1 j v i
    rw [up2_ap, up1_ap]
    by_cases e : i = j
    · rw [if_pos ⟨by omega, rfl⟩, if_pos e]
    · rw [if_neg (by omega), if_neg e]; exact t.2.1 i hi
/-! plans -/
def bldS (R : Nat → Nat) : Nat → Tw × Nat × Int32 → Tw × Nat × Int32
  | 0, p => p
  | f + 1, p => if nI 2 ≤ p.1.2 11 (R p.2.1) then bldS R f (p.1, p.2.1 + 1, p.2.2) else if p.1.2 8 (R p.2.1) ≤ p.1.1 6 then bldS R f (up11 (setS p.1 6 (p.1.1 6 - p.1.2 8 (R p.2.1))) (R p.2.1), p.2.1 + 1, p.2.2 + nI 1) else p
theorem rg_nle2 {x : Int32} (h : Rg 0 2 x) (h2 : ¬ nI 2 ≤ x) : ¬ x = nI 2 := fun e => h2 (by rw [e]; decide)
def RowR (m : Nat) (h : Hp) (R : Nat → Nat) (len n : Nat) : Prop := len ≤ 10 ∧ Fi h 75 m = nI len ∧ ∀ i, i < len → R i < n ∧ Ai h (m + 29) i = nI (R i)
theorem c_builds {G : GG} {h : Hp} {m s n k len : Nat} {T : Tw} {R : Nat → Nat} {at_ : Nat} {md : Int32} (hM : MSh m h) (hT : MTw m h T s n k) (hR : RowR m h R len n) (ha : Fi h 76 m = nI at_) (hal : at_ ≤ len) (hmd : Fi h 77 m = md) : Ct G mX5_builds 0 0 0 [.ref m] h (fun r h2 => r = none ∧ ∃ p, p = bldS R (len - at_) (setS T 6 (T.1 6 + T.1 3), at_, md) ∧ MTw m h2 p.1 s n k ∧ Fi h2 76 m = nI p.2.1 ∧ p.2.1 ≤ len ∧ Fi h2 77 m = p.2.2 ∧ FQ m [13] [] [35, 76, 77] h h2 ∧ ∀ j, 10 ≤ j → Ai h2 (m + 13) j = Ai h (m + 13) j) nX := by
  have hn := hT.n10
  obtain ⟨hl, h75, hrow⟩ := hR
  refine Ct.mk ok_mX5_builds ?_
  have loop : ∀ (f a : Nat) (T' : Tw) (md' : Int32) (v1 : Value) (h' : Hp), a + f = len → bldS R f (T', a, md') = bldS R (len - at_) (setS T 6 (T.1 6 + T.1 3), at_, md) → MTw m h' T' s n k → Fi h' 76 m = nI a → Fi h' 77 m = md' → FQ m [13] [] [35, 76, 77] h h' → (∀ j, 10 ≤ j → Ai h' (m + 13) j = Ai h (m + 13) j) → WW G mX5_builds (rmO 0 0 0) h (fun r h2 => r = none ∧ ∃ p, p = bldS R (len - at_) (setS T 6 (T.1 6 + T.1 3), at_, md) ∧ MTw m h2 p.1 s n k ∧ Fi h2 76 m = nI p.2.1 ∧ p.2.1 ≤ len ∧ Fi h2 77 m = p.2.2 ∧ FQ m [13] [] [35, 76, 77] h h2 ∧ ∀ j, 10 ≤ j → Ai h2 (m + 13) j = Ai h (m + 13) j) nX 13 [.ref m, v1] [] h' 0 0 := by
    intro f
    induction f with
    | zero =>
      intro a T' md' v1 h' haf hs hT' h76 h77 q hj
      have hM := q.MSh hM
      have hal : a = len := by omega
      refine blk kX5_builds_13 ?_
      refine ⟨_, hM.1, rfl, ?_⟩
      refine ⟨_, hM.1, rfl, ?_⟩
      refine br_t (by rw [h76, hal, q.2.1 75 (by decide), h75]; exact Int32.le_refl _) ?_
      refine blk kX5_builds_106 ?_
      exact ⟨trivial, rfl, (T', a, md'), hs, hT', h76, by dsimp only; omega, h77, q, hj⟩
    | succ f ih =>
      intro a T' md' v1 h' haf hs hT' h76 h77 q hj
      have hM0 := hM
      have hM := q.MSh hM
      have hal : a < len := by omega
      obtain ⟨hr1, hr2⟩ := hrow a hal
      have er : Ai h' (m + 29) a = nI (R a) := by rw [q.2.2.1 29 (by decide)]; exact hr2
      refine blk kX5_builds_13 ?_
      refine ⟨_, hM.1, rfl, ?_⟩
      refine ⟨_, hM.1, rfl, ?_⟩
      refine br_f (by rw [h76, q.2.1 75 (by decide), h75]; exact nI_ge hal (by omega)) ?_
      refine blk kX5_builds_24 ?_
      refine ⟨_, _, hM.1, rfl, hM.row_.1, ?_⟩
      refine ⟨_, hM.1, rfl, ?_⟩
      refine ⟨a, _, hM.row_.2.1, Or.inl rfl, h76, Nat.lt_of_lt_of_eq (by omega) hM.row_.2.2.symm, ?_⟩
      refine ⟨_, _, hM.1, rfl, hM.steps_.1, ?_⟩
      refine ⟨R a, _, hM.steps_.2.1, Or.inl rfl, er, Nat.lt_of_lt_of_eq (by omega) hM.steps_.2.2.symm, ?_⟩
      rw [show Ai h' (m + 29) a = nI (R a) from er]
      have nxt : ∀ (T2 : Tw) (md2 : Int32) (h2 : Hp), bldS R f (T2, a + 1, md2) = bldS R (len - at_) (setS T 6 (T.1 6 + T.1 3), at_, md) → MTw m h2 T2 s n k → Fi h2 76 m = nI a → Fi h2 77 m = md2 → FQ m [13] [] [35, 76, 77] h h2 → (∀ j, 10 ≤ j → Ai h2 (m + 13) j = Ai h (m + 13) j) → WW G mX5_builds (rmO 0 0 0) h (fun r h2 => r = none ∧ ∃ p, p = bldS R (len - at_) (setS T 6 (T.1 6 + T.1 3), at_, md) ∧ MTw m h2 p.1 s n k ∧ Fi h2 76 m = nI p.2.1 ∧ p.2.1 ≤ len ∧ Fi h2 77 m = p.2.2 ∧ FQ m [13] [] [35, 76, 77] h h2 ∧ ∀ j, 10 ≤ j → Ai h2 (m + 13) j = Ai h (m + 13) j) nX 93 [.ref m, .int (nI (R a))] [] h2 0 0 := by
        intro T2 md2 h2 e1 e2 e3 e4 e5 e6
        have hM := e5.MSh hM0
        refine blk kX5_builds_93 ?_
        refine ⟨rfl, ?_⟩
        refine ⟨_, hM.1, rfl, ?_⟩
        refine ⟨_, hM.1, rfl, ?_⟩
        refine ih (a + 1) T2 md2 _ _ (by omega) e1 ?_ ?_ e4 (e5.tr (FQ.sFi (by decide))) e6
        · have := FQ.MTw (FQ.sFi (m := m) (f := 76) (A := []) (L := []) (F := [76]) (h := h2) (v := Fi h2 76 m + nI 1) (by decide)) e2 rfl rfl
          exact this
        · show up2 (Fi h2) 76 m (Fi h2 76 m + nI 1) 76 m = _
          rw [up2_ap, if_pos ⟨rfl, rfl⟩, e3]
          exact nI_add a 1
      refine br_c (fun c1 => ?_) (fun c1 => ?_)
      · have c1 : nI 2 ≤ Ai h' (m + 13) (R a) := c1
        rw [hT'.steps_ hr1] at c1
        exact nxt T' md' h' (by rw [← hs]; exact (if_pos c1).symm) hT' h76 h77 q hj
      · have c1 : ¬ nI 2 ≤ Ai h' (m + 13) (R a) := c1
        rw [hT'.steps_ hr1] at c1
        have c1' := rg_nle2 (hT'.1.house hr1).steps_ c1
        refine blk kX5_builds_44 ?_
        refine ⟨_, hM.1, rfl, ?_⟩
        refine ⟨_, _, hM.1, rfl, hM.cost_.1, ?_⟩
        refine ⟨R a, _, hM.cost_.2.1, Or.inl rfl, rfl, Nat.lt_of_lt_of_eq (by omega) hM.cost_.2.2.symm, ?_⟩
        refine br_c (fun c2 => ?_) (fun c2 => ?_)
        · have c2 : Ai h' (m + 10) (R a) ≤ Fi h' 35 m := c2
          rw [hT'.cost_ hr1, hT'.purse_] at c2
          refine blk kX5_builds_58 ?_
          refine ⟨rfl, ?_⟩
          refine ⟨_, hM.1, rfl, ?_⟩
          refine ⟨_, _, hM.1, rfl, hM.cost_.1, ?_⟩
          refine ⟨R a, _, hM.cost_.2.1, Or.inl rfl, rfl, Nat.lt_of_lt_of_eq (by omega) hM.cost_.2.2.symm, ?_⟩
          refine ⟨_, hM.1, rfl, ?_⟩
          refine ⟨_, _, hM.1, rfl, hM.steps_.1, ?_⟩
          refine ⟨R a, _, hM.steps_.2.1, Or.inl rfl, rfl, Nat.lt_of_lt_of_eq (by omega) hM.steps_.2.2.symm, ?_⟩
          refine ⟨R a, hM.steps_.2.1, rfl, Nat.lt_of_lt_of_eq (by omega) hM.steps_.2.2.symm, ?_⟩
          refine ⟨rfl, ?_⟩
          refine ⟨_, hM.1, rfl, ?_⟩
          refine ⟨_, hM.1, rfl, ?_⟩
          refine nxt (up11 (setS T' 6 (T'.1 6 - T'.2 8 (R a))) (R a)) (md' + nI 1) _ ?_ ?_ h76 ?_ ?_ ?_
          · rw [← hs]
            refine Eq.symm ((if_neg c1).trans ?_)
            exact if_pos c2
          · have t1 := hT'.setS_ (j := 6) (v := T'.1 6 - T'.2 8 (R a)) (by decide)
            have t2 := t1.set_steps (i := R a) (v := T'.2 11 (R a) + nI 1) (rg_add1 (hT'.1.house hr1).steps_ c1')
            rw [hT'.purse_.symm, (hT'.cost_ hr1).symm, (hT'.steps_ hr1).symm] at t2
            have t3 := FQ.MTw (FQ.sFi (m := m) (f := 77) (A := []) (L := []) (F := [77]) (v := Fi h' 77 m + nI 1) (by decide)) t2 rfl rfl
            have e9 : up11 (setS T' 6 (T'.1 6 - T'.2 8 (R a))) (R a) = setA (setS T' 6 (Fi h' 35 m - Ai h' (m + 10) (R a))) 11 (R a) (Ai h' (m + 13) (R a) + nI 1) := by
              rw [hT'.purse_, hT'.cost_ hr1, hT'.steps_ hr1]; rfl
            rw [e9]
            exact t3
          · show up2 _ 77 m (Fi h' 77 m + nI 1) 77 m = _
            rw [up2_ap, if_pos ⟨rfl, rfl⟩, h77]
          · exact q.tr ((FQ.sFi (by decide)).tr ((FQ.sAi (by decide)).tr (FQ.sFi (by decide))))
          · intro j hj'
            show up2 (Ai h') (m + 13) (R a) _ (m + 13) j = _
            rw [up2_ap, if_neg (by omega)]
            exact hj j hj'
        · have c2 : ¬ Ai h' (m + 10) (R a) ≤ Fi h' 35 m := c2
          rw [hT'.cost_ hr1, hT'.purse_] at c2
          refine blk kX5_builds_57 ?_
          refine ⟨trivial, rfl, (T', a, md'), ?_, hT', h76, by dsimp only; omega, h77, q, hj⟩
          rw [← hs]
          exact ((if_neg c1).trans (if_neg c2)).symm
  refine blk kX5_builds_0 ?_
  refine ⟨rfl, ?_⟩
  refine ⟨_, hM.1, rfl, ?_⟩
  refine ⟨_, hM.1, rfl, ?_⟩
  refine ⟨_, hM.1, rfl, ?_⟩
  rw [show Fi h 35 m = T.1 6 from hT.purse_, show Fi h 32 m = T.1 3 from hT.coin_]
  refine loop (len - at_) at_ (setS T 6 (T.1 6 + T.1 3)) md _ _ (by omega) rfl (hT.setS_ (j := 6) (by decide)) ha hmd (FQ.sFi (by decide)) (fun _ _ => rfl)

def yrS (R : Nat → Nat) (len : Nat) (p : Tw × Nat × Int32) : Tw × Nat × Int32 := bldS R (len - p.2.1) (setS p.1 6 (p.1.1 6 + p.1.1 3), p.2)
def plS (R : Nat → Nat) (len : Nat) (T : Tw) : Nat → (Tw × Nat × Int32) × Int64
  | 0 => ((T, 0, nI 0), lN 0)
  | y + 1 => (yrS R len (plS R len T y).1, (plS R len T y).2 + meS (yrS R len (plS R len T y).1).1 (nHo T) (wT T) (nSk T))
theorem c_planned {G : GG} {h : Hp} {m s n k len N : Nat} {T : Tw} {R : Nat → Nat} {x : Int32} (hM : MSh m h) (hT : MTw m h T s n k) (hR : RowR m h R len n) (hx : x = nI N) (hN : N ≤ 20) : Ct G mX5_planned 4 0 0 [.ref m, .int x] h (fun r h2 => r = some (.long (plS R len T N).2) ∧ FQ m [25] [26, 27] [76, 77] h h2 ∧ Fi h2 77 m = (plS R len T N).1.2.2) nX := by
  have hn := hT.n10
  have ew : wT T = wrP T (nI 2) (nI 1) s n := by unfold wT; rw [hT.1.nSt_, hT.1.nHo_]
  refine Ct.mk ok_mX5_planned ?_
  refine blk kX5_planned_0 ?_
  refine ⟨_, _, hM.1, rfl, hM.aside_.1, ?_⟩
  refine callv_g hM.1 (c_allI2 hM hM.aside_.2.1 hM.aside_.2.2 (by decide)) (fun r1 h1 hO => ?_)
  obtain ⟨rfl, q1, hk⟩ := hO
  have hM0 := hM
  have hM := q1.MSh hM
  have hT1 := q1.MTw hT rfl rfl
  refine callv_g hM.1 (c_worthsBy hM hT1) (fun r1 h1 hO => ?_)
  obtain ⟨rfl, g, rfl, hg⟩ := hO
  refine ⟨_, hM.1, rfl, ?_⟩
  refine ⟨_, hM.1, rfl, ?_⟩
  generalize Ai h (m + 25) = g0 at *
  have loop : ∀ (q y : Nat) (z : Int32) (h' : Hp), y + q = N → z = nI y → MTw m h' (plS R len T y).1.1 s n k → Fi h' 76 m = nI (plS R len T y).1.2.1 → (plS R len T y).1.2.1 ≤ len → Fi h' 77 m = (plS R len T y).1.2.2 → FQ m [13, 25] [26, 27] [35, 76, 77] h h' → (∀ j, 10 ≤ j → Ai h' (m + 13) j = Ai h (m + 13) j) → Ai h' (m + 25) = kept h m g0 → (∀ set, set < 2 ^ n → Al h' (m + 27) set = wT T set) → WW G mX5_planned (rmO 4 0 0) h (fun r h2 => r = some (.long (plS R len T N).2) ∧ FQ m [25] [26, 27] [76, 77] h h2 ∧ Fi h2 77 m = (plS R len T N).1.2.2) nX 30 [.ref m, .int x, .long (plS R len T y).2, dV, .int z] [] h' 0 0 := by
    intro q
    induction q with
    | zero =>
      intro y z h' hq hz hT' h76 hal h77 f hj h25 hw
      have hy : N = y := by omega
      subst hy
      have hM := f.MSh hM0
      refine blk kX5_planned_30 ?_
      refine br_t (by rw [hz, hx]; exact Int32.le_refl _) ?_
      refine blk kX5_planned_53 ?_
      refine ⟨_, _, hM.1, rfl, hM.aside_.1, ?_⟩
      refine callv_g hM.1 (c_allB2 hM hM.aside_.2.1 hM.aside_.2.2 (by decide)) (fun r1 h1 hO => ?_)
      obtain ⟨rfl, q2, hb, hb2⟩ := hO
      refine ⟨trivial, rfl, ⟨⟨?_, ?_, ?_, ?_, ?_⟩, fun e he => ?_, fun o ho => ?_, fun o ho => ?_⟩, ?_⟩
      · exact q2.1.1.trans f.1.1
      · exact q2.1.2.1.trans f.1.2.1
      · exact q2.1.2.2.1.trans f.1.2.2.1
      · exact q2.1.2.2.2.1.trans f.1.2.2.2.1
      · exact q2.1.2.2.2.2.trans f.1.2.2.2.2
      · by_cases e1 : 29 ≤ e ∧ e < 39
        · obtain ⟨j, hj1, rfl⟩ : ∃ j, j < 10 ∧ e = 29 + j := ⟨e - 29, by omega, by omega⟩
          rw [hb2 j hj1, h25, kept_n hj1]
        · rw [q2.2.1 e (by simp; omega), f.2.1 e (by simp at he ⊢; omega)]
      · by_cases e1 : 2 ≤ o ∧ o < 15
        · obtain ⟨b, hb1, rfl⟩ : ∃ b, b < 13 ∧ o = 2 + b := ⟨o - 2, by omega, by omega⟩
          rw [hb b hb1, h25]
          funext j
          unfold bkF
          split
          · rename_i c
            rw [kept_a hb1 c]
          · rename_i c
            by_cases e2 : b = 11
            · subst e2
              exact hj j (by unfold lnS at c; simp at c; exact c)
            · rw [f.2.2.1 (2 + b) (by simp; omega)]
        · rw [q2.2.2.1 o (by simp; omega), f.2.2.1 o (by simp at ho ⊢; omega)]
      · rw [q2.2.2.2 o (by simp), f.2.2.2 o ho]
      · rw [q2.2.1 77 (by decide)]; exact h77
    | succ q ih =>
      intro y z h' hq hz hT' h76 hal h77 f hj h25 hw
      have hy : y < N := by omega
      have hM := f.MSh hM0
      have hR' : RowR m h' R len n := ⟨hR.1, (f.2.1 75 (by decide)).trans hR.2.1, fun i hi => ⟨(hR.2.2 i hi).1, by rw [f.2.2.1 29 (by decide)]; exact (hR.2.2 i hi).2⟩⟩
      refine blk kX5_planned_30 ?_
      refine br_f (by rw [hz, hx]; exact nI_ge hy (by omega)) ?_
      refine blk kX5_planned_36 ?_
      refine callv_g hM.1 (c_builds hM hT' hR' h76 hal h77) (fun r1 h1 hO => ?_)
      obtain ⟨rfl, p, hp, hT2, h76', hal', h77', f2, hj2⟩ := hO
      have hM2 := f2.MSh hM
      have hw2 : ∀ set, set < 2 ^ n → Al h1 (m + 27) set = wT T set := fun set hs => by rw [f2.2.2.2 27 (by decide)]; exact hw set hs
      have ep : p = yrS R len (plS R len T y).1 := hp
      have hM := hM2
      refine callv_g hM.1 (c_meanNow (w := wT T) hM hT2 hw2) (fun r1 h1 hO => ?_)
      obtain ⟨rfl, g3, rfl⟩ := hO
      have f3 : FQ m [13, 25] [26, 27] [35, 76, 77] h (rAl h1 (m + 26) g3) := f.tr ((f2.up rfl rfl rfl).tr (FQ.rAl (by decide)))
      have key := ih (y + 1) (z + nI 1) (rAl h1 (m + 26) g3) (by omega) (by rw [hz]; exact nI_add y 1) (by show MTw m h1 (yrS R len (plS R len T y).1).1 s n k; rw [← ep]; exact hT2) (by show Fi h1 76 m = nI (yrS R len (plS R len T y).1).2.1; rw [← ep]; exact h76') (by show (yrS R len (plS R len T y).1).2.1 ≤ len; rw [← ep]; exact hal') (by show Fi h1 77 m = (yrS R len (plS R len T y).1).2.2; rw [← ep]; exact h77') f3 (fun j hj' => (hj2 j hj').trans (hj j hj')) ((f2.2.2.1 25 (by decide)).trans h25) (fun set hs => by rw [Al_rAl_ne (by omega)]; exact hw2 set hs)
      rw [show (plS R len T (y + 1)).2 = (plS R len T y).2 + meS p.1 n (wT T) k by rw [ep, ← hT.1.nHo_, ← hT.1.nSk_]; rfl] at key
      exact key
  have fin : FQ m [13, 25] [26, 27] [35, 76, 77] h (sFi (sFi (rAl h1 (m + 27) g) 76 m (nI 0)) 77 m (nI 0)) := (q1.up rfl rfl rfl).tr ((FQ.rAl (by decide)).tr ((FQ.sFi (by decide)).tr (FQ.sFi (by decide))))
  refine loop N 0 _ _ (by omega) rfl ((((FQ.rAl (A := []) (L := [27]) (F := [76, 77]) (m := m) (o := 27) (by decide)).tr ((FQ.sFi (by decide)).tr (FQ.sFi (by decide))))).MTw hT1 rfl rfl) ?_ (Nat.zero_le _) ?_ fin (fun j _ => ?_) hk (fun set hs => ?_)
  · show up2 (up2 (Fi h1) 76 m (nI 0)) 77 m (nI 0) 76 m = _
    rw [up2_ap, if_neg (by simp), up2_ap, if_pos ⟨rfl, rfl⟩]; rfl
  · show up2 (up2 (Fi h1) 76 m (nI 0)) 77 m (nI 0) 77 m = _
    rw [up2_ap, if_pos ⟨rfl, rfl⟩]; rfl
  · rw [show Ai (sFi (sFi (rAl h1 (m + 27) g) 76 m (nI 0)) 77 m (nI 0)) (m + 13) = Ai h1 (m + 13) from rfl, q1.2.2.1 13 (by decide)]
  · rw [show Al (sFi (sFi (rAl h1 (m + 27) g) 76 m (nI 0)) 77 m (nI 0)) (m + 27) = g from Al_rAl, ew]; exact hg set hs
