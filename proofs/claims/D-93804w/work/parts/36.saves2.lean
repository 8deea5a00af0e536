set_option maxRecDepth 100000
theorem stF_up {g : Nat → Int32} {L : List Nat} {b : Nat} (hb : b ∉ L) : up1 (stF g L 0) b (stF g L 0 b + nI 1) = stF g (L ++ [b]) 0 := by
  funext i
  rw [up1_ap]
  unfold stF
  by_cases e : i = b
  · subst e
    rw [if_pos rfl, if_neg (fun q => hb q.1), if_pos ⟨by simp, Nat.zero_le _⟩]
  · rw [if_neg e]
    by_cases e2 : i ∈ L
    · rw [if_pos ⟨e2, Nat.zero_le _⟩, if_pos ⟨by simp [e2], Nat.zero_le _⟩]
    · rw [if_neg (fun q => e2 q.1), if_neg (fun q => by have := q.1; simp at this; exact this.elim e2 e)]
theorem stF_dn {g : Nat → Int32} {L : List Nat} {c : Nat} (hc : c ∈ L) : up1 (stF g L c) c (stF g L c c - nI 1) = stF g L (c + 1) := by
  funext i
  rw [up1_ap]
  unfold stF
  by_cases e : i = c
  · subst e
    rw [if_pos rfl, if_pos ⟨hc, Nat.le_refl _⟩, if_neg (by omega), Int32.add_sub_cancel]
  · rw [if_neg e]
    by_cases e2 : i ∈ L ∧ c ≤ i
    · rw [if_pos e2, if_pos ⟨e2.1, by omega⟩]
    · rw [if_neg e2, if_neg (fun q => e2 ⟨q.1, by omega⟩)]
theorem stF_ne {g : Nat → Int32} {L : List Nat} {c : Nat} (hc : c ∉ L) : stF g L c = stF g L (c + 1) := by
  funext i
  unfold stF
  by_cases e2 : i ∈ L ∧ c ≤ i
  · have : i ≠ c := fun e => hc (e ▸ e2.1)
    rw [if_pos e2, if_pos ⟨e2.1, by omega⟩]
  · rw [if_neg e2, if_neg (fun q => e2 ⟨q.1, by omega⟩)]
theorem stF_end {g : Nat → Int32} {L : List Nat} {n : Nat} (hL : ∀ i ∈ L, i < n) : stF g L n = g := by
  funext i
  unfold stF
  rw [if_neg (fun q => by have := hL i q.1; omega)]
theorem stF_st {g : Nat → Int32} {T : Tw} {L : List Nat} {n : Nat} (hg : ∀ i, i < n → g i = T.2 11 i) : ∀ i, i < n → stF g L 0 i = (stpL T L).2 11 i := by
  intro i hi
  unfold stF stpL
  dsimp only
  by_cases e : i ∈ L
  · rw [if_pos ⟨e, Nat.zero_le _⟩, if_pos ⟨rfl, e⟩, hg i hi]
  · rw [if_neg (fun q => e q.1), if_neg (fun q => e q.2), hg i hi]
theorem c_saves {G : GG} {h : Hp} {m s n k : Nat} {T : Tw} {a : Int32} (hM : MSh m h) (hT : MTw m h T s n k) (o : OrdR m h []) : Ct G mX5_saves 4 0 0 [.ref m, .int a] h (fun r h2 => r = none ∧ MK m h h2 ∧ OrdR m h2 (oSav T a)) nX := by
  have hn := hT.n10
  have hg0 : ∀ i, i < n → Ai h (m + 13) i = T.2 11 i := fun i hi => hT.steps_ hi
  have ew : wT T = wrP T (nI 2) (nI 1) s n := by unfold wT; rw [hT.1.nSt_, hT.1.nHo_]
  have eo : oSav T a = restsL T (savF (wT T) n k a T n []) n := by unfold oSav savL; rw [hT.1.nHo_, hT.1.nSk_]
  rw [eo]
  refine Ct.mk ok_mX5_saves ?_
  refine blk kX5_saves_0 ?_
  refine callv_g hM.1 (c_worthsBy hM hT) (fun r1 h1 hO => ?_)
  obtain ⟨rfl, g, rfl, hg⟩ := hO
  have back : ∀ (q c : Nat) (z set : Int32) (v4 v6 v7 : Value) (L : List Nat) (h' : Hp), c + q = n → z = nI c → LOK n L → (∀ i, i < n → bitP set (nI i) = decide (i ∈ L)) → MK3 m h h' (stF (Ai h (m + 13)) L c) → OrdR m h' L → L = savF (wT T) n k a T n [] → WW G mX5_saves (rmO 4 0 0) h (fun r h2 => r = none ∧ MK m h h2 ∧ OrdR m h2 (restsL T (savF (wT T) n k a T n []) n)) nX 162 [.ref m, .int a, .int set, .int z, v4, dV, v6, v7, dV] [] h' 0 0 := by
    intro q
    induction q with
    | zero =>
      intro c z set v4 v6 v7 L h' hq hz lo hb x o hs
      have hc : n = c := by omega
      subst hc
      rw [stF_end lo.2] at x
      have hk : MK m h h' := by have := x; unfold MK3 at this; rw [rAi_self] at this; exact this
      have hM := hk.MSh hM
      refine blk kX5_saves_162 ?_
      refine ⟨_, hM.1, rfl, ?_⟩
      refine br_t (by rw [hz]; exact Int32.le_of_eq (hk.MTw hT).nH) ?_
      refine blk kX5_saves_195 ?_
      refine callv_g hM.1 (c_rests hM (hk.MTw hT) lo o) (fun r1 h1 hO => ?_)
      obtain ⟨rfl, k2, o2, -⟩ := hO
      exact ⟨trivial, rfl, hk.tr k2, by rw [← hs]; exact o2⟩
    | succ q ih =>
      intro c z set v4 v6 v7 L h' hq hz lo hb x o hs
      have hc : c < n := by omega
      have hM' := hM
      have hM := x.MSh hM
      refine blk kX5_saves_162 ?_
      refine ⟨_, hM.1, rfl, ?_⟩
      refine br_f (by rw [hz]; rw [show Fi h' 30 m = nI n from (x.2.1 30 rfl).trans hT.nH]; exact nI_ge hc (by omega)) ?_
      have nxt : ∀ h' : Hp, MK3 m h h' (stF (Ai h (m + 13)) L (c + 1)) → OrdR m h' L → WW G mX5_saves (rmO 4 0 0) h (fun r h2 => r = none ∧ MK m h h2 ∧ OrdR m h2 (restsL T (savF (wT T) n k a T n []) n)) nX 189 [.ref m, .int a, .int set, .int z, v4, dV, v6, v7, dV] [] h' 0 0 := by
        intro h' x o
        refine blk kX5_saves_189 ?_
        exact ih (c + 1) _ _ _ _ _ _ _ (by omega) (by rw [hz]; exact nI_1 c) lo hb x o hs
      have hbc := hb c hc
      rw [← hz] at hbc
      refine blk kX5_saves_170 ?_
      refine brn_c (fun c1 => ?_) (fun c1 => ?_)
      · rw [bitP_f c1] at hbc
        have hm : c ∉ L := by simpa using hbc.symm
        exact nxt _ (by rw [← stF_ne hm]; exact x) o
      · rw [bitP_t c1] at hbc
        have hm : c ∈ L := by simpa using hbc.symm
        refine blk kX5_saves_179 ?_
        refine ⟨_, _, hM.1, rfl, hM.steps_.1, ?_⟩
        refine ⟨c, _, hM.steps_.2.1, Or.inl rfl, hz, Nat.lt_of_lt_of_eq (by omega) hM.steps_.2.2.symm, ?_⟩
        refine ⟨c, hM.steps_.2.1, hz, Nat.lt_of_lt_of_eq (by omega) hM.steps_.2.2.symm, ?_⟩
        refine nxt _ ?_ (o.mk_ rfl (Ai_sAi_ne (by omega)))
        have := x.set (i := c) (v := stF (Ai h (m + 13)) L c c - nI 1)
        rw [stF_dn hm] at this
        rw [← x.at] at this
        exact this
  have inner : ∀ (f : Nat) (set : Int32) (L : List Nat) (hf : f + L.length = n) (lo : LOK n L) (h2 : ∀ i ∈ L, ¬ T.2 11 i = nI 2) (hb : ∀ i, i < n → bitP set (nI i) = decide (i ∈ L)) (hs : savF (wT T) n k a T f L = savF (wT T) n k a T n []) (h' : Hp) (x : MK3 m h h' (stF (Ai h (m + 13)) L 0)) (o : OrdR m h' L) (hw : ∀ set, set < 2 ^ n → Al h' (m + 27) set = wT T set) (nx : ∀ (f' b : Nat) (v3 v4 v6 v7 : Value) (h' : Hp) (set : Int32), f = f' + 1 → (svB (wT T) n k a (stpL T L) L n).1 = nI b → LOK n (L ++ [b]) → (∀ i ∈ L ++ [b], ¬ T.2 11 i = nI 2) → (∀ i, i < n → bitP set (nI i) = decide (i ∈ L ++ [b])) → MK3 m h h' (stF (Ai h (m + 13)) (L ++ [b]) 0) → OrdR m h' (L ++ [b]) → (∀ set, set < 2 ^ n → Al h' (m + 27) set = wT T set) → WW G mX5_saves (rmO 4 0 0) h (fun r h2 => r = none ∧ MK m h h2 ∧ OrdR m h2 (restsL T (savF (wT T) n k a T n []) n)) nX 8 [.ref m, .int a, .int set, v3, v4, dV, v6, v7, dV] [] h' 0 0), ∀ (q i : Nat) (z b : Int32) (le : Int64) (v7 : Value) (g2 : Nat → Int64), i + q = n → z = nI i → (b, le) = svB (wT T) n k a (stpL T L) L i → WW G mX5_saves (rmO 4 0 0) h (fun r h2 => r = none ∧ MK m h h2 ∧ OrdR m h2 (restsL T (savF (wT T) n k a T n []) n)) nX 16 [.ref m, .int a, .int set, .int b, .long le, dV, .int z, v7, dV] [] (rAl h' (m + 26) g2) 0 0 := by
    intro f set L hf lo h2 hb hs h' x o hw nx q
    have hMh := x.MSh hM
    have hTh := x.MTw hT h2 (stF_st hg0)
    have hll := lo.len
    induction q with
    | zero =>
      intro i z b le v7 g2 hq hz hi
      have hin : n = i := by omega
      subst hin
      have hM := hMh
      refine blk kX5_saves_16 ?_
      refine ⟨_, hM.1, rfl, ?_⟩
      refine br_t (by rw [hz]; exact Int32.le_of_eq hTh.nH) ?_
      refine blk kX5_saves_116 ?_
      refine brn_c (fun c1 => ?_) (fun c1 => ?_)
      · have c1 : ¬ b = -1 := c1
        rcases svB_in (w := wT T) (n := n) (k := k) (a := a) (T := stpL T L) (L := L) n hn with e | ⟨b', e1, e2, e3, e4⟩
        · exact absurd (by rw [← e, ← hi]) c1
        · have eb : b = nI b' := by rw [← e2, ← hi]
          have hlt := lo.lt e1 e4
          have e3' : ¬ T.2 11 b' = nI 2 := by
            intro e; refine e3 ?_
            show (if _ then _ else _) = _
            rw [if_neg (fun q => e4 q.2)]; exact e
          obtain ⟨f', rfl⟩ : ∃ f', f = f' + 1 := ⟨f - 1, by omega⟩
          refine blk kX5_saves_124 ?_
          refine ⟨_, _, hM.1, rfl, hM.order_.1, ?_⟩
          refine ⟨rfl, ?_⟩
          refine ⟨_, hM.1, rfl, ?_⟩
          refine ⟨_, hM.1, rfl, ?_⟩
          refine ⟨L.length, hM.order_.2.1, o.1, Nat.lt_of_lt_of_eq (by omega) hM.order_.2.2.symm, ?_⟩
          refine blk kX5_saves_141 ?_
          refine ⟨_, _, hM.1, rfl, hM.steps_.1, ?_⟩
          refine ⟨b', _, hM.steps_.2.1, Or.inl rfl, eb, Nat.lt_of_lt_of_eq (by omega) hM.steps_.2.2.symm, ?_⟩
          refine ⟨b', hM.steps_.2.1, eb, Nat.lt_of_lt_of_eq (by omega) hM.steps_.2.2.symm, ?_⟩
          refine nx f' b' _ _ _ _ _ _ rfl e2 (lo.snoc e1 e4) ?_ ?_ ?_ ?_ ?_
          · intro i hi; rcases List.mem_append.mp hi with hi | hi
            · exact h2 i hi
            · simp at hi; subst hi; exact e3'
          · intro i hi
            rw [eb]
            have := bit_put (x := set) (v := b') (i := i) (by omega) (by omega)
            refine this.trans ?_
            rw [hb i hi]
            by_cases q1 : i ∈ L
            · simp [q1]
            · by_cases q2 : b' = i
              · simp [q2]
              · have q3 : ¬ i = b' := fun e => q2 e.symm
                simp [q1, q2, q3]
          · have key : ∀ v w u : Int32, u = stF (Ai h (m + 13)) L 0 b' + nI 1 → MK3 m h (sAi (sAi (sFi (rAl h' (m + 26) g2) 73 m v) (m + 28) L.length w) (m + 13) b' u) (stF (Ai h (m + 13)) (L ++ [b']) 0) := by
              intro v w u hu
              rw [hu, ← stF_up e4]
              exact (x.tr (((MK.rAl (o := 26) (g := g2) rfl).tr (MK.sFi (f := 73) rfl)).tr (MK.sAi (o := 28) rfl))).set
            refine key _ _ _ ?_
            show up2 (Ai h') (m + 28) _ _ (m + 13) b' + nI 1 = _
            rw [up2_ap, if_neg (by omega), x.at]
          · exact OrdR.mk_ (OrdR.snoc (h := rAl h' (m + 26) g2) (o.mk_ rfl rfl) (show Fi h' 73 m + nI 1 = _ by rw [o.1]; exact nI_add _ 1) eb) rfl (Ai_sAi_ne (by omega))
          · intro set hs
            show Al (rAl h' (m + 26) g2) (m + 27) set = _
            rw [Al_rAl_ne (by omega)]; exact hw set hs
      · have c1 : b = -1 := c1
        refine blk kX5_saves_121 ?_
        refine blk kX5_saves_160 ?_
        have e : savF (wT T) n k a T f L = L := by
          cases f with
          | zero => rfl
          | succ f => exact if_pos (by rw [← hi]; exact c1)
        exact back n 0 _ _ _ _ _ L _ (by omega) rfl lo hb (x.tr (MK.rAl rfl)) (o.mk_ rfl rfl) (e.symm.trans hs)
    | succ q ih =>
      intro i z b le v7 g2 hq hz hi
      have hin : i < n := by omega
      have hM := hMh
      refine blk kX5_saves_16 ?_
      refine ⟨_, hM.1, rfl, ?_⟩
      refine br_f (by rw [hz]; rw [show Fi (rAl h' (m + 26) g2) 30 m = nI n from hTh.nH]; exact nI_ge hin (by omega)) ?_
      have nxt : ∀ (b : Int32) (le : Int64) (v7 : Value) (g2 : Nat → Int64), (b, le) = svB (wT T) n k a (stpL T L) L (i + 1) → WW G mX5_saves (rmO 4 0 0) h (fun r h2 => r = none ∧ MK m h h2 ∧ OrdR m h2 (restsL T (savF (wT T) n k a T n []) n)) nX 110 [.ref m, .int a, .int set, .int b, .long le, dV, .int z, v7, dV] [] (rAl h' (m + 26) g2) 0 0 := by
        intro b le v7 g2 h3
        refine blk kX5_saves_110 ?_
        exact ih (i + 1) _ _ _ _ _ (by omega) (by rw [hz]; exact nI_1 i) h3
      have skip : ∀ g2 v7, ((stpL T L).2 11 i = nI 2 ∨ a < (stpL T L).2 8 i ∨ i ∈ L) → WW G mX5_saves (rmO 4 0 0) h (fun r h2 => r = none ∧ MK m h h2 ∧ OrdR m h2 (restsL T (savF (wT T) n k a T n []) n)) nX 110 [.ref m, .int a, .int set, .int b, .long le, dV, .int z, v7, dV] [] (rAl h' (m + 26) g2) 0 0 := by
        intro g2 v7 c
        refine nxt _ _ _ _ ?_
        rw [show svB (wT T) n k a (stpL T L) L (i + 1) = svB (wT T) n k a (stpL T L) L i from if_pos c]
        exact hi
      refine blk kX5_saves_25 ?_
      refine ⟨_, _, hM.1, rfl, hM.steps_.1, ?_⟩
      refine ⟨i, _, hM.steps_.2.1, Or.inl rfl, hz, Nat.lt_of_lt_of_eq (by omega) hM.steps_.2.2.symm, ?_⟩
      refine br_c (fun c1 => ?_) (fun c1 => ?_)
      · have c1 : Ai h' (m + 13) i = nI 2 := c1
        rw [hTh.steps_ hin] at c1
        exact skip _ _ (Or.inl c1)
      · have c1 : ¬ Ai h' (m + 13) i = nI 2 := c1
        rw [hTh.steps_ hin] at c1
        refine blk kX5_saves_36 ?_
        refine ⟨_, _, hM.1, rfl, hM.cost_.1, ?_⟩
        refine ⟨i, _, hM.cost_.2.1, Or.inl rfl, hz, Nat.lt_of_lt_of_eq (by omega) hM.cost_.2.2.symm, ?_⟩
        refine br_c (fun c2 => ?_) (fun c2 => ?_)
        · have c2 : a < Ai h' (m + 10) i := c2
          rw [hTh.cost_ hin] at c2
          exact skip _ _ (Or.inr (Or.inl c2))
        · have c2 : ¬ a < Ai h' (m + 10) i := c2
          rw [hTh.cost_ hin] at c2
          refine blk kX5_saves_47 ?_
          refine callv_r hM.1 (c_isIn (b := i) (L := L) hM (o.mk_ rfl rfl) (by omega) (fun y hy => by have := lo.2 y hy; omega) (by omega) hz) ?_
          refine br_c (fun c3 => ?_) (fun c3 => ?_)
          · have c3 := bI_eq c3
            have nc : ¬ ((stpL T L).2 11 i = nI 2 ∨ a < (stpL T L).2 8 i ∨ i ∈ L) := fun q => q.elim c1 (fun q => q.elim c2 c3)
            have hw9 : ∀ u set, set < 2 ^ n → Al (sAi (rAl h' (m + 26) g2) (m + 13) i u) (m + 27) set = wT T set := fun u set hs => by
              show Al (rAl h' (m + 26) g2) (m + 27) set = _
              rw [Al_rAl_ne (by omega)]; exact hw set hs
            have hT2 : MTw m (sAi (rAl h' (m + 26) g2) (m + 13) i (Ai h' (m + 13) i + nI 1)) (up11 (stpL T L) i) s n k := by
              unfold up11
              rw [hTh.steps_ hin]
              exact MTw.set_steps (h := rAl h' (m + 26) g2) hTh (rg_add1 (hTh.1.house hin).steps_ c1)
            refine blk kX5_saves_59 ?_
            refine ⟨_, _, hM.1, rfl, hM.steps_.1, ?_⟩
            refine ⟨i, _, hM.steps_.2.1, Or.inl rfl, hz, Nat.lt_of_lt_of_eq (by omega) hM.steps_.2.2.symm, ?_⟩
            refine ⟨i, hM.steps_.2.1, hz, Nat.lt_of_lt_of_eq (by omega) hM.steps_.2.2.symm, ?_⟩
            refine callv_g hM.1 (c_meanNow (h := sAi (rAl h' (m + 26) g2) (m + 13) i (Ai h' (m + 13) i + nI 1)) (w := wT T) hM hT2 (hw9 _)) (fun r1 h1 hO => ?_)
            obtain ⟨rfl, g3, rfl⟩ := hO
            refine ⟨_, _, hM.1, rfl, hM.steps_.1, ?_⟩
            refine ⟨i, _, hM.steps_.2.1, Or.inl rfl, hz, Nat.lt_of_lt_of_eq (by omega) hM.steps_.2.2.symm, ?_⟩
            refine ⟨i, hM.steps_.2.1, hz, Nat.lt_of_lt_of_eq (by omega) hM.steps_.2.2.symm, ?_⟩
            have eh : sAi (rAl (sAi (rAl h' (m + 26) g2) (m + 13) i (Ai h' (m + 13) i + nI 1)) (m + 26) g3) (m + 13) i (Ai (rAl (sAi (rAl h' (m + 26) g2) (m + 13) i (Ai h' (m + 13) i + nI 1)) (m + 26) g3) (m + 13) i - nI 1) = rAl h' (m + 26) g3 := by
              refine (sAi_back (h := rAl h' (m + 26) g2) ?_).trans rAl_rAl
              show up2 (Ai h') (m + 13) i (Ai h' (m + 13) i + nI 1) (m + 13) i - nI 1 = _
              rw [up2_ap, if_pos ⟨rfl, rfl⟩]
              exact Int32.add_sub_cancel _ _
            dsimp only
            rw [eh]
            have set_ : (svB (wT T) n k a (stpL T L) L i).1 = -1 ∨ meS (up11 (stpL T L) i) n (wT T) k < (svB (wT T) n k a (stpL T L) L i).2 → WW G mX5_saves (rmO 4 0 0) h (fun r h2 => r = none ∧ MK m h h2 ∧ OrdR m h2 (restsL T (savF (wT T) n k a T n []) n)) nX 103 [.ref m, .int a, .int set, .int b, .long le, dV, .int z, .long (meS (up11 (stpL T L) i) n (wT T) k), dV] [] (rAl h' (m + 26) g3) 0 0 := by
              intro c
              refine blk kX5_saves_103 ?_
              refine nxt _ _ _ _ ?_
              rw [show svB (wT T) n k a (stpL T L) L (i + 1) = _ from if_neg nc, if_pos c, hz]
            refine br_c (fun c4 => ?_) (fun c4 => ?_)
            · have c4 : b = -1 := c4
              exact set_ (Or.inl (by rw [← hi]; exact c4))
            · have c4 : ¬ b = -1 := c4
              refine blk kX5_saves_92 ?_
              refine br_c (fun c5 => ?_) (fun c5 => ?_)
              · exact set_ (Or.inr (by rw [← hi]; exact (lg_cmp_lt _ _).mp c5))
              · refine blk kX5_saves_100 ?_
                refine nxt _ _ _ _ ?_
                rw [show svB (wT T) n k a (stpL T L) L (i + 1) = _ from if_neg nc, if_neg, hi]
                rw [← hi]
                rintro (q | q)
                · exact c4 q
                · exact c5 ((lg_cmp_lt _ _).mpr q)
          · refine blk kX5_saves_56 ?_
            exact skip _ _ (Or.inr (Or.inr (bI_ne c3)))
  have main : ∀ (f : Nat) (set : Int32) (v3 v4 v6 v7 : Value) (L : List Nat) (h' : Hp), f + L.length = n → LOK n L → (∀ i ∈ L, ¬ T.2 11 i = nI 2) → (∀ i, i < n → bitP set (nI i) = decide (i ∈ L)) → MK3 m h h' (stF (Ai h (m + 13)) L 0) → OrdR m h' L → (∀ set, set < 2 ^ n → Al h' (m + 27) set = wT T set) → savF (wT T) n k a T f L = savF (wT T) n k a T n [] → WW G mX5_saves (rmO 4 0 0) h (fun r h2 => r = none ∧ MK m h h2 ∧ OrdR m h2 (restsL T (savF (wT T) n k a T n []) n)) nX 8 [.ref m, .int a, .int set, v3, v4, dV, v6, v7, dV] [] h' 0 0 := by
    intro f
    induction f with
    | zero =>
      intro set v3 v4 v6 v7 L h' hf lo h2 hb x o hw hs
      refine blk kX5_saves_8 ?_
      have := inner 0 set L hf lo h2 hb hs h' x o hw (fun f' b v3 v4 v6 v7 h' set e => by omega) n 0 (nI 0) (-1) (lN 0) v7 (Al h' (m + 26)) (by omega) rfl rfl
      rw [rAl_self] at this
      exact this
    | succ f ihf =>
      intro set v3 v4 v6 v7 L h' hf lo h2 hb x o hw hs
      refine blk kX5_saves_8 ?_
      have := inner (f + 1) set L hf lo h2 hb hs h' x o hw (fun f' b v3 v4 v6 v7 h' set e eb lo2 h22 hb2 x2 o2 hw2 => by
        have e : f' = f := by omega
        subst e
        refine ihf set v3 v4 v6 v7 (L ++ [b]) h' (by simp; omega) lo2 h22 hb2 x2 o2 hw2 ?_
        rw [← hs]
        have hb9 : (svB (wT T) n k a (stpL T L) L n).1.toNatClampNeg = b := by rw [eb]; exact nI_clamp (by have := lo2.2 b (by simp); omega)
        rw [show savF (wT T) n k a T (f' + 1) L = _ from if_neg (by rw [eb]; exact nI_m1 (by have := lo2.2 b (by simp); omega)), hb9]) n 0 (nI 0) (-1) (lN 0) v7 (Al h' (m + 26)) (by omega) rfl rfl
      rw [rAl_self] at this
      exact this
  refine main n _ _ _ _ _ [] _ (by simp) LOK.nil (fun _ q => by cases q) (fun i hi => ?_) ?_ ?_ ?_ rfl
  · rw [bit_nI (by omega)]; simp
  · have e : stF (Ai h (m + 13)) [] 0 = Ai h (m + 13) := by funext i; unfold stF; rw [if_neg (by simp)]
    rw [e]
    exact MK3.rf.tr (MK.rAl rfl)
  · exact o.mk_ rfl rfl
  · intro set hs
    rw [Al_rAl, ew]; exact hg set hs
