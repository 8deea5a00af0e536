set_option maxRecDepth 100000
def opS (T : Tw) (j t : Nat) : Nat → Int64
  | 0 => lN 1
  | i + 1 => opS T j t i * (if T.2 9 i = nI t then (nI 10 - fallsP T i j).toInt64 else lN 10)
def tenS : Nat → Int64
  | 0 => lN 1
  | i + 1 => tenS i * lN 10
def naS (T : Tw) (j n : Nat) : Nat → Int32 × Int64
  | 0 => (-1, lN 0)
  | t + 1 => if (naS T j n t).1 = -1 ∨ (naS T j n t).2 < tenS n - opS T j t n then (nI t, tenS n - opS T j t n) else naS T j n t
def oNarrow (σ : Sg) (x : Int32) : Value × Sg := if inK (gT σ) x then (.int (naS (gT σ) x.toNatClampNeg (nHo (gT σ)) (nSt (gT σ))).1, σ) else (.int (-(nI 1) - nI 10), rfs σ 1)
theorem o_narrow {G : GG} {h : Hp} {m : Nat} {σ : Sg} {x : Int32} (r : MRep m h σ) : Ct G mX5_narrow 5 0 0 [.ref m, .int x] h (PO m (oNarrow σ x)) nX := by
  have hM := r.1
  obtain ⟨s, n, k, t⟩ := r.tw
  have hn := t.n10
  have hs := t.s12
  have hk := t.k4
  refine Ct.mk ok_mX5_narrow ?_
  unfold oNarrow
  refine blk kX5_narrow_0 ?_
  refine callv_r hM.1 (c_isShake hM t) ?_
  refine brn_c (fun c1 => ?_) (fun c1 => ?_)
  · have c1 := bI_ne c1
    have c9 : inK (gT σ) x := by unfold inK; rw [t.1.nSk_]; exact c1
    obtain ⟨x1, x2⟩ := inN_ix c1 (by omega)
    rw [if_pos c9, t.1.nHo_, t.1.nSt_]
    generalize x.toNatClampNeg = j at *
    generalize gT σ = T at *
    refine blk kX5_narrow_14 ?_
    have loop : ∀ (q i : Nat) (z b : Int32) (mo : Int64) (v6 v7 v8 v9 v10 : Value), i + q = s → z = nI i → (b, mo) = naS T j n i → WW G mX5_narrow (rmO 5 0 0) h (PO m (.int (naS T j n s).1, σ)) nX 21 [.ref m, .int x, .int b, .long mo, dV, .int z, v6, v7, v8, v9, v10] [] h 0 0 := by
      intro q
      induction q with
      | zero =>
        intro i z b mo v6 v7 v8 v9 v10 hq hz hb
        have hi : s = i := by omega
        subst hi
        refine blk kX5_narrow_21 ?_
        refine ⟨_, hM.1, rfl, ?_⟩
        refine br_t (by rw [hz]; exact Int32.le_of_eq t.nS) ?_
        refine blk kX5_narrow_129 ?_
        exact ⟨trivial, by rw [← hb], r⟩
      | succ q ih =>
        intro i z b mo v6 v7 v8 v9 v10 hq hz hb
        have hi : i < s := by omega
        refine blk kX5_narrow_21 ?_
        refine ⟨_, hM.1, rfl, ?_⟩
        refine br_f (by rw [hz]; rw [t.nS]; exact nI_ge hi (by omega)) ?_
        have nxt : ∀ (b : Int32) (mo : Int64) (v6 v7 v8 v9 v10 : Value), (b, mo) = naS T j n (i + 1) → WW G mX5_narrow (rmO 5 0 0) h (PO m (.int (naS T j n s).1, σ)) nX 123 [.ref m, .int x, .int b, .long mo, dV, .int z, v6, v7, v8, v9, v10] [] h 0 0 := by
          intro b mo v6 v7 v8 v9 v10 h2
          refine blk kX5_narrow_123 ?_
          exact ih (i + 1) _ _ _ _ _ _ _ _ (by omega) (by rw [hz]; exact nI_1 i) h2
        refine blk kX5_narrow_30 ?_
        have inner : ∀ (p c : Nat) (y : Int32) (op wh : Int64), c + p = n → y = nI c → op = opS T j i c → wh = tenS c → WW G mX5_narrow (rmO 5 0 0) h (PO m (.int (naS T j n s).1, σ)) nX 39 [.ref m, .int x, .int b, .long mo, dV, .int z, .long op, dV, .long wh, dV, .int y] [] h 0 0 := by
          intro p
          induction p with
          | zero =>
            intro c y op wh hp hy ho hw
            have hc : n = c := by omega
            subst hc
            refine blk kX5_narrow_39 ?_
            refine ⟨_, hM.1, rfl, ?_⟩
            refine br_t (by rw [hy]; exact Int32.le_of_eq t.nH) ?_
            have set_ : (naS T j n i).1 = -1 ∨ (naS T j n i).2 < tenS n - opS T j i n → WW G mX5_narrow (rmO 5 0 0) h (PO m (.int (naS T j n s).1, σ)) nX 114 [.ref m, .int x, .int b, .long mo, dV, .int z, .long op, dV, .long wh, dV, .int y] [] h 0 0 := by
              intro c
              refine blk kX5_narrow_114 ?_
              refine nxt _ _ _ _ _ _ _ ?_
              simp only [naS]
              rw [if_pos c, hz, ho, hw]
            refine blk kX5_narrow_96 ?_
            refine br_c (fun c2 => ?_) (fun c2 => ?_)
            · exact set_ (Or.inl (by rw [← hb]; exact c2))
            · refine blk kX5_narrow_101 ?_
              refine br_c (fun c3 => ?_) (fun c3 => ?_)
              · exact set_ (Or.inr (by rw [← hb, ← ho, ← hw]; exact (lg_cmp_gt _ _).mp c3))
              · refine blk kX5_narrow_111 ?_
                refine nxt _ _ _ _ _ _ _ ?_
                simp only [naS]
                rw [if_neg, hb]
                rw [← hb, ← ho, ← hw]
                rintro (q | q)
                · exact c2 q
                · exact c3 ((lg_cmp_gt _ _).mpr q)
          | succ p ihp =>
            intro c y op wh hp hy ho hw
            have hc : c < n := by omega
            refine blk kX5_narrow_39 ?_
            refine ⟨_, hM.1, rfl, ?_⟩
            refine br_f (by rw [hy]; rw [t.nH]; exact nI_ge hc (by omega)) ?_
            have nx2 : ∀ (f : Int64), f = (if T.2 9 c = nI i then (nI 10 - fallsP T c j).toInt64 else lN 10) → WW G mX5_narrow (rmO 5 0 0) h (PO m (.int (naS T j n s).1, σ)) nX 79 [.ref m, .int x, .int b, .long mo, dV, .int z, .long op, dV, .long wh, dV, .int y] [.long f, .long op] h 0 0 := by
              intro f hf
              refine blk kX5_narrow_79 ?_
              exact ihp (c + 1) _ _ _ (by omega) (by rw [hy]; exact nI_1 c) (by rw [ho, hf]; rfl) (by rw [hw]; rfl)
            refine blk kX5_narrow_48 ?_
            refine ⟨_, _, hM.1, rfl, hM.front_.1, ?_⟩
            refine ⟨c, _, hM.front_.2.1, Or.inl rfl, hy, Nat.lt_of_lt_of_eq (by omega) hM.front_.2.2.symm, ?_⟩
            refine brn_c (fun c2 => ?_) (fun c2 => ?_)
            · have c2 : ¬ Ai h (m + 11) c = z := c2
              rw [t.front_ hc, hz] at c2
              refine blk kX5_narrow_76 ?_
              exact nx2 _ (by rw [if_neg c2])
            · have c2 : Ai h (m + 11) c = z := c2
              rw [t.front_ hc, hz] at c2
              refine blk kX5_narrow_62 ?_
              refine callv_r hM.1 (c_fallsOf hM t hc x2 hy x1) ?_
              exact nx2 _ (by rw [if_pos c2])
        exact inner n 0 _ _ _ (by omega) rfl rfl rfl
    exact loop s 0 _ _ _ _ _ _ _ _ (by omega) rfl rfl
  · have c1 := bI_eq c1
    have c9 : ¬ inK (gT σ) x := by unfold inK; rw [t.1.nSk_]; exact c1
    rw [if_neg c9]
    refine blk kX5_narrow_8 ?_
    refine callv_g hM.1 (noTen_PO (k := 1) r (by decide) rfl) (fun r1 h1 hO => ?_)
    obtain ⟨rfl, hr⟩ := hO
    exact ⟨trivial, rfl, hr⟩
