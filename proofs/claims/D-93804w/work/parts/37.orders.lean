set_option maxRecDepth 100000
/-! orders by a rule -/
def toldS (T : Tw) (c : Nat → Int32) : Nat → List Nat
  | 0 => []
  | j + 1 => if inH T (c j) ∧ ¬ nI 2 ≤ T.2 11 (c j).toNatClampNeg ∧ (c j).toNatClampNeg ∉ toldS T c j then toldS T c j ++ [(c j).toNatClampNeg] else toldS T c j
theorem toldS_ok {T : Tw} {c : Nat → Int32} (hn : nHo T ≤ 10) : ∀ j, LOK (nHo T) (toldS T c j)
  | 0 => LOK.nil
  | j + 1 => by
    unfold toldS
    split
    · rename_i q
      exact (toldS_ok hn j).snoc (inN_ix q.1 (by omega)).2 q.2.2
    · exact toldS_ok hn j
def insI (p : Nat → Bool) (L : List Nat) : Nat → Nat
  | 0 => 0
  | i + 1 => if p (L.getD i 0) = true then insI p L i else i + 1
theorem insI_le {p : Nat → Bool} {L : List Nat} : ∀ i, insI p L i ≤ i
  | 0 => Nat.le_refl _
  | i + 1 => by
    unfold insI
    split
    · have := insI_le (p := p) (L := L) i; omega
    · exact Nat.le_refl _
def insL (p : Nat → Bool) (b : Nat) (L : List Nat) : List Nat := L.take (insI p L L.length) ++ b :: L.drop (insI p L L.length)
theorem ins_perm {L : List Nat} {b i : Nat} : (L.take i ++ b :: L.drop i).Perm (L ++ [b]) := by
  have h1 : (L.take i ++ b :: L.drop i).Perm (b :: (L.take i ++ L.drop i)) := List.perm_middle
  rw [List.take_append_drop] at h1
  exact h1.trans (List.perm_append_comm (l₁ := [b]) (l₂ := L))
theorem ins_get {L : List Nat} {b i j : Nat} (hi : i ≤ L.length) (hj : j ≤ L.length) : (L.take i ++ b :: L.drop i).getD j 0 = if j < i then L.getD j 0 else if j = i then b else L.getD (j - 1) 0 := by
  rw [List.getD_eq_getElem?_getD]
  by_cases h1 : j < i
  · rw [if_pos h1, List.getElem?_append_left (by simp; omega), List.getElem?_take, if_pos h1, List.getD_eq_getElem?_getD]
  · rw [if_neg h1, List.getElem?_append_right (by simp; omega)]
    have e : (L.take i).length = i := by simp; omega
    rw [e]
    by_cases h2 : j = i
    · rw [if_pos h2, h2]; simp
    · rw [if_neg h2]
      obtain ⟨t, ht⟩ : ∃ t, j - i = t + 1 := ⟨j - i - 1, by omega⟩
      rw [ht, List.getElem?_cons_succ, List.getElem?_drop, List.getD_eq_getElem?_getD, show i + t = j - 1 by omega]
theorem insL_ok {n b : Nat} {p : Nat → Bool} {L : List Nat} (h : LOK n L) (hb : b < n) (hm : b ∉ L) : LOK n (insL p b L) := by
  have h2 := h.snoc hb hm
  have hp : (insL p b L).Perm (L ++ [b]) := ins_perm
  exact ⟨hp.nodup_iff.mpr h2.1, fun x hx => h2.2 x (hp.mem_iff.mp hx)⟩
def insS (T : Tw) (k : Int32) : Nat → List Nat
  | 0 => []
  | i + 1 => if T.2 11 i = nI 2 then insS T k i else insL (fun b => ahP T k i b) i (insS T k i)
theorem insS_ok {T : Tw} {k : Int32} : ∀ i, LOK i (insS T k i)
  | 0 => LOK.nil
  | i + 1 => by
    have h := insS_ok (T := T) (k := k) i
    have h2 : LOK (i + 1) (insS T k i) := ⟨h.1, fun x hx => by have := h.2 x hx; omega⟩
    unfold insS
    split
    · exact h2
    · exact insL_ok h2 (by omega) (fun q => by have := h.2 i q; omega)
theorem LOK.mono {a b : Nat} {L : List Nat} (h : LOK a L) (hab : a ≤ b) : LOK b L := ⟨h.1, fun x hx => Nat.lt_of_lt_of_le (h.2 x hx) hab⟩
def ordL (σ : Sg) (i : Nat) : List Nat := if gS σ 3 i = nI 4 then oSav (gT σ) (gS σ 4 i) else if gS σ 3 i = nI 6 then restsL (gT σ) (toldS (gT σ) (fun j => (gC σ (120 * i + j)).toInt32) (gS σ 2 i).toNatClampNeg) (nHo (gT σ)) else insS (gT σ) (gS σ 3 i) (nHo (gT σ))
theorem oSav_ok {T : Tw} {a : Int32} (hn : nHo T ≤ 10) : LOK (nHo T) (oSav T a) := restsL_ok (savF_ok hn _ _ LOK.nil) _ (Nat.le_refl _)
theorem ordL_ok {σ : Sg} {i : Nat} (hn : nHo (gT σ) ≤ 10) : LOK (nHo (gT σ)) (ordL σ i) := by
  unfold ordL
  split
  · exact oSav_ok hn
  · split
    · exact restsL_ok (toldS_ok hn _) _ (Nat.le_refl _)
    · exact insS_ok _
theorem c_orders {G : GG} {h : Hp} {m i : Nat} {σ : Sg} {x : Int32} (r : MRep m h σ) (hi : i < 8) (hx : x = nI i) (h2 : gS σ 3 i = nI 6 → Rg 0 120 (gS σ 2 i)) : Ct G mX5_orders 5 0 0 [.ref m, .int x] h (fun r h2 => r = none ∧ MK m h h2 ∧ OrdR m h2 (ordL σ i)) nX := by
  have hM := r.1
  obtain ⟨s, n, k, t⟩ := r.tw
  have hn := t.n10
  have e2 := r.2.2.2.1 2 i (by decide) hi
  have e3 := r.2.2.2.1 3 i (by decide) hi
  have e4 := r.2.2.2.1 4 i (by decide) hi
  have en := t.1.nHo_
  refine Ct.mk ok_mX5_orders ?_
  have k0 : MK m h (sFi h 73 m (nI 0)) := MK.sFi rfl
  have o0 : OrdR m (sFi h 73 m (nI 0)) [] := ⟨by show up2 (Fi h) 73 m _ 73 m = _; rw [up2_ap, if_pos ⟨rfl, rfl⟩]; rfl, fun j hj => absurd hj (Nat.not_lt_zero _)⟩
  refine blk kX5_orders_0 ?_
  refine ⟨_, hM.1, rfl, ?_⟩
  refine ⟨_, _, hM.1, rfl, hM.kind_.1, ?_⟩
  refine ⟨i, _, hM.kind_.2.1, Or.inl rfl, hx, Nat.lt_of_lt_of_eq (by omega) hM.kind_.2.2.symm, ?_⟩
  refine brn_c (fun c1 => ?_) (fun c1 => ?_)
  · have c1 : ¬ Ai h (m + 18) i = nI 4 := c1
    rw [e3] at c1
    refine blk kX5_orders_26 ?_
    refine ⟨_, _, hM.1, rfl, hM.kind_.1, ?_⟩
    refine ⟨i, _, hM.kind_.2.1, Or.inl rfl, hx, Nat.lt_of_lt_of_eq (by omega) hM.kind_.2.2.symm, ?_⟩
    refine brn_c (fun c2 => ?_) (fun c2 => ?_)
    · have c2 : ¬ Ai h (m + 18) i = nI 6 := c2
      rw [e3] at c2
      have eo : ordL σ i = insS (gT σ) (gS σ 3 i) n := by unfold ordL; rw [if_neg c1, if_neg c2, en]
      refine blk kX5_orders_110 ?_
      have loop : ∀ (q c : Nat) (z : Int32) (v3 : Value) (h' : Hp), c + q = n → z = nI c → MK m h h' → OrdR m h' (insS (gT σ) (gS σ 3 i) c) → WW G mX5_orders (rmO 5 0 0) h (fun r h2 => r = none ∧ MK m h h2 ∧ OrdR m h2 (ordL σ i)) nX 112 [.ref m, .int x, .int z, v3] [] h' 0 0 := by
        intro q
        induction q with
        | zero =>
          intro c z v3 h' hq hz hk o
          have hc : n = c := by omega
          subst hc
          have hM := hk.MSh hM
          refine blk kX5_orders_112 ?_
          refine ⟨_, hM.1, rfl, ?_⟩
          refine br_t (by rw [hz]; exact Int32.le_of_eq (hk.MTw t).nH) ?_
          refine blk kX5_orders_207 ?_
          exact ⟨trivial, rfl, hk, by rw [eo]; exact o⟩
        | succ q ih =>
          intro c z v3 h' hq hz hk o
          have hc : c < n := by omega
          have hM := hk.MSh hM
          have hT := hk.MTw t
          have lo := insS_ok (T := gT σ) (k := gS σ 3 i) c
          have hlen := lo.len
          have e3' : Ai h' (m + 18) i = gS σ 3 i := by rw [hk.2.2.1 18 rfl]; exact e3
          refine blk kX5_orders_112 ?_
          refine ⟨_, hM.1, rfl, ?_⟩
          refine br_f (by rw [hz, hT.nH]; exact nI_ge hc (by omega)) ?_
          have nxt : ∀ (v3 : Value) (h' : Hp), MK m h h' → OrdR m h' (insS (gT σ) (gS σ 3 i) (c + 1)) → WW G mX5_orders (rmO 5 0 0) h (fun r h2 => r = none ∧ MK m h h2 ∧ OrdR m h2 (ordL σ i)) nX 201 [.ref m, .int x, .int z, v3] [] h' 0 0 := by
            intro v3 h' hk o
            refine blk kX5_orders_201 ?_
            exact ih (c + 1) _ _ _ (by omega) (by rw [hz]; exact nI_1 c) hk o
          refine blk kX5_orders_120 ?_
          refine ⟨_, _, hM.1, rfl, hM.steps_.1, ?_⟩
          refine ⟨c, _, hM.steps_.2.1, Or.inl rfl, hz, Nat.lt_of_lt_of_eq (by omega) hM.steps_.2.2.symm, ?_⟩
          refine brn_c (fun c3 => ?_) (fun c3 => ?_)
          · have c3 : ¬ Ai h' (m + 13) c = nI 2 := c3
            rw [hT.steps_ hc] at c3
            generalize eL : insS (gT σ) (gS σ 3 i) c = L at *
            have eS : insS (gT σ) (gS σ 3 i) (c + 1) = insL (fun b => ahP (gT σ) (gS σ 3 i) c b) c L := by rw [← eL]; exact if_neg c3
            refine blk kX5_orders_133 ?_
            refine ⟨_, hM.1, rfl, ?_⟩
            have put : ∀ (j : Nat) (y : Int32) (h2 : Hp), j ≤ L.length → y = nI j → MK m h h2 → Fi h2 73 m = nI L.length → (∀ a, a < j → Ai h2 (m + 28) a = nI (L.getD a 0)) → (∀ a, j < a → a ≤ L.length → Ai h2 (m + 28) a = nI (L.getD (a - 1) 0)) → j = insI (fun b => ahP (gT σ) (gS σ 3 i) c b) L L.length → WW G mX5_orders (rmO 5 0 0) h (fun r h2 => r = none ∧ MK m h h2 ∧ OrdR m h2 (ordL σ i)) nX 184 [.ref m, .int x, .int z, .int y] [] h2 0 0 := by
              intro j y h2 hj hy hk2 h73 hA hB hI
              have hM := hk2.MSh r.1
              refine blk kX5_orders_184 ?_
              refine ⟨_, _, hM.1, rfl, hM.order_.1, ?_⟩
              refine ⟨j, hM.order_.2.1, hy, Nat.lt_of_lt_of_eq (by omega) hM.order_.2.2.symm, ?_⟩
              refine ⟨rfl, ?_⟩
              refine ⟨_, hM.1, rfl, ?_⟩
              refine ⟨_, hM.1, rfl, ?_⟩
              refine nxt _ _ (hk2.tr ((MK.sAi rfl).tr (MK.sFi rfl))) ⟨?_, fun a ha => ?_⟩
              · show up2 (Fi h2) 73 m (Fi h2 73 m + nI 1) 73 m = _
                rw [up2_ap, if_pos ⟨rfl, rfl⟩, h73, eS]
                rw [show (insL (fun b => ahP (gT σ) (gS σ 3 i) c b) c L).length = L.length + 1 by
                  have := (ins_perm (L := L) (b := c) (i := insI (fun b => ahP (gT σ) (gS σ 3 i) c b) L L.length)).length_eq
                  unfold insL; rw [this]; simp]
                exact nI_add _ 1
              · rw [eS] at ha ⊢
                have hal : a ≤ L.length := by
                  have := (ins_perm (L := L) (b := c) (i := insI (fun b => ahP (gT σ) (gS σ 3 i) c b) L L.length)).length_eq
                  unfold insL at ha; rw [this] at ha; simp at ha; omega
                show up2 (Ai h2) (m + 28) j z (m + 28) a = _
                unfold insL
                rw [← hI, ins_get hj hal, up2_ap]
                by_cases q1 : a < j
                · rw [if_neg (by omega), if_pos q1]; exact hA a q1
                · by_cases q2 : a = j
                  · rw [if_pos ⟨rfl, q2⟩, if_neg q1, if_pos q2, hz]
                  · rw [if_neg (fun q => q2 q.2), if_neg q1, if_neg q2]; exact hB a (by omega) hal
            have sh : ∀ (j : Nat) (y : Int32) (h2 : Hp), j ≤ L.length → y = nI j → MK m h h2 → Fi h2 73 m = nI L.length → (∀ a, a < j → Ai h2 (m + 28) a = nI (L.getD a 0)) → (∀ a, j < a → a ≤ L.length → Ai h2 (m + 28) a = nI (L.getD (a - 1) 0)) → insI (fun b => ahP (gT σ) (gS σ 3 i) c b) L j = insI (fun b => ahP (gT σ) (gS σ 3 i) c b) L L.length → WW G mX5_orders (rmO 5 0 0) h (fun r h2 => r = none ∧ MK m h h2 ∧ OrdR m h2 (ordL σ i)) nX 138 [.ref m, .int x, .int z, .int y] [] h2 0 0 := by
              intro j
              induction j with
              | zero =>
                intro y h2 hj hy hk2 h73 hA hB hI
                have hM := hk2.MSh r.1
                refine blk kX5_orders_138 ?_
                refine br_t (by rw [hy]; decide) ?_
                exact put _ y h2 hj hy hk2 h73 hA hB hI
              | succ j ihj =>
                intro y h2 hj hy hk2 h73 hA hB hI
                have hM := hk2.MSh r.1
                have hT := hk2.MTw t
                have hmem : L.getD j 0 ∈ L := by rw [List.getD_eq_getElem?_getD, List.getElem?_eq_getElem (by omega)]; exact List.getElem_mem (by omega)
                have hlt := lo.2 _ hmem
                have e3' : Ai h2 (m + 18) i = gS σ 3 i := by rw [hk2.2.2.1 18 rfl]; exact e3
                have ey : y - nI 1 = nI j := by rw [hy]; exact nI_pred j
                refine blk kX5_orders_138 ?_
                refine br_f (by rw [hy]; exact nI_nle (by omega) (by omega)) ?_
                refine blk kX5_orders_142 ?_
                refine ⟨_, _, hM.1, rfl, hM.kind_.1, ?_⟩
                refine ⟨i, _, hM.kind_.2.1, Or.inl rfl, hx, Nat.lt_of_lt_of_eq (by omega) hM.kind_.2.2.symm, ?_⟩
                refine ⟨_, _, hM.1, rfl, hM.order_.1, ?_⟩
                refine ⟨j, _, hM.order_.2.1, Or.inl rfl, ey, Nat.lt_of_lt_of_eq (by omega) hM.order_.2.2.symm, ?_⟩
                refine callv_r hM.1 (c_isAhead (a := c) (b := L.getD j 0) hM hT hc (by omega) hz (hA j (by omega))) ?_
                rw [e3']
                refine br_c (fun c4 => ?_) (fun c4 => ?_)
                · have c4 := bI_eq c4
                  refine put _ y h2 hj hy hk2 h73 hA hB ?_
                  rw [← hI]
                  exact (if_neg c4).symm
                · have c4 := bI_ne c4
                  refine blk kX5_orders_164 ?_
                  refine ⟨_, _, hM.1, rfl, hM.order_.1, ?_⟩
                  refine ⟨_, _, hM.1, rfl, hM.order_.1, ?_⟩
                  refine ⟨j, _, hM.order_.2.1, Or.inl rfl, ey, Nat.lt_of_lt_of_eq (by omega) hM.order_.2.2.symm, ?_⟩
                  refine ⟨j + 1, hM.order_.2.1, hy, Nat.lt_of_lt_of_eq (by omega) hM.order_.2.2.symm, ?_⟩
                  refine ihj _ _ (by omega) (by rw [hy]; exact pk_m1 j) (hk2.tr (MK.sAi rfl)) h73 (fun a ha => ?_) (fun a ha hal => ?_) ?_
                  · rw [show Ai (sAi h2 (m + 28) (j + 1) (Ai h2 (m + 28) j)) (m + 28) a = up2 (Ai h2) (m + 28) (j + 1) (Ai h2 (m + 28) j) (m + 28) a from rfl, up2_ap, if_neg (by omega)]
                    exact hA a (by omega)
                  · rw [show Ai (sAi h2 (m + 28) (j + 1) (Ai h2 (m + 28) j)) (m + 28) a = up2 (Ai h2) (m + 28) (j + 1) (Ai h2 (m + 28) j) (m + 28) a from rfl, up2_ap]
                    by_cases q : a = j + 1
                    · rw [if_pos ⟨rfl, q⟩, q]; exact hA j (by omega)
                    · rw [if_neg (fun z => q z.2)]; exact hB a (by omega) hal
                  · rw [← hI]
                    exact (if_pos c4).symm
            exact sh L.length _ h' (Nat.le_refl _) o.1 hk o.1 o.2 (fun a h1 h2 => by omega) rfl
          · have c3 : Ai h' (m + 13) c = nI 2 := c3
            rw [hT.steps_ hc] at c3
            refine blk kX5_orders_130 ?_
            refine nxt _ _ hk ?_
            rw [show insS (gT σ) (gS σ 3 i) (c + 1) = _ from if_pos c3]
            exact o
      exact loop n 0 _ _ _ (by omega) rfl k0 o0
    · have c2 : Ai h (m + 18) i = nI 6 := c2
      rw [e3] at c2
      obtain ⟨q1, q2⟩ := (h2 c2).ix (N := 121) (by decide)
      generalize eN : (gS σ 2 i).toNatClampNeg = N at *
      have hn9 : nHo (gT σ) ≤ 10 := by rw [en]; exact hn
      have eo : ordL σ i = restsL (gT σ) (toldS (gT σ) (fun j => (gC σ (120 * i + j)).toInt32) N) n := by unfold ordL; rw [if_neg c1, if_pos c2, en, eN]
      refine blk kX5_orders_37 ?_
      have loop : ∀ (q c : Nat) (z : Int32) (v3 : Value) (h' : Hp), c + q = N → z = nI c → MK m h h' → OrdR m h' (toldS (gT σ) (fun j => (gC σ (120 * i + j)).toInt32) c) → WW G mX5_orders (rmO 5 0 0) h (fun r h2 => r = none ∧ MK m h h2 ∧ OrdR m h2 (ordL σ i)) nX 39 [.ref m, .int x, .int z, v3] [] h' 0 0 := by
        intro q
        induction q with
        | zero =>
          intro c z v3 h' hq hz hk o
          have hc : N = c := by omega
          subst hc
          have hM := hk.MSh hM
          have e2' : Ai h' (m + 17) i = nI N := by rw [hk.2.2.1 17 rfl]; exact e2.trans q1
          have lo := toldS_ok (T := gT σ) (c := fun j => (gC σ (120 * i + j)).toInt32) hn9 N
          rw [en] at lo
          refine blk kX5_orders_39 ?_
          refine ⟨_, _, hM.1, rfl, hM.size_.1, ?_⟩
          refine ⟨i, _, hM.size_.2.1, Or.inl rfl, hx, Nat.lt_of_lt_of_eq (by omega) hM.size_.2.2.symm, ?_⟩
          refine br_t (by rw [hz, e2']; exact Int32.le_refl _) ?_
          refine blk kX5_orders_105 ?_
          refine callv_g hM.1 (c_rests hM (hk.MTw t) lo o) (fun r1 h1 hO => ?_)
          obtain ⟨rfl, k2, o2, -⟩ := hO
          exact ⟨trivial, rfl, hk.tr k2, by rw [eo]; exact o2⟩
        | succ q ih =>
          intro c z v3 h' hq hz hk o
          have hc : c < N := by omega
          have hM := hk.MSh hM
          have hT := hk.MTw t
          have lo := toldS_ok (T := gT σ) (c := fun j => (gC σ (120 * i + j)).toInt32) hn9 c
          rw [en] at lo
          have hlen := lo.len
          have e2' : Ai h' (m + 17) i = nI N := by rw [hk.2.2.1 17 rfl]; exact e2.trans q1
          refine blk kX5_orders_39 ?_
          refine ⟨_, _, hM.1, rfl, hM.size_.1, ?_⟩
          refine ⟨i, _, hM.size_.2.1, Or.inl rfl, hx, Nat.lt_of_lt_of_eq (by omega) hM.size_.2.2.symm, ?_⟩
          refine br_f (by rw [hz, e2']; exact nI_ge hc (by omega)) ?_
          generalize eL : toldS (gT σ) (fun j => (gC σ (120 * i + j)).toInt32) c = L at *
          have eS : toldS (gT σ) (fun j => (gC σ (120 * i + j)).toInt32) (c + 1) = if inH (gT σ) (gC σ (120 * i + c)).toInt32 ∧ ¬ nI 2 ≤ (gT σ).2 11 (gC σ (120 * i + c)).toInt32.toNatClampNeg ∧ (gC σ (120 * i + c)).toInt32.toNatClampNeg ∉ L then L ++ [(gC σ (120 * i + c)).toInt32.toNatClampNeg] else L := by rw [← eL]; rfl
          refine blk kX5_orders_49 ?_
          refine callv_r hM.1 (c_intAt (r.mk hk) hx hz hi (by omega)) ?_
          refine callv_r hM.1 (c_isHouse (s := s) (n := n) (k := k) hM hT) ?_
          generalize (gC σ (120 * i + c)).toInt32 = y at *
          have nxt : ∀ (h' : Hp), MK m h h' → OrdR m h' (toldS (gT σ) (fun j => (gC σ (120 * i + j)).toInt32) (c + 1)) → WW G mX5_orders (rmO 5 0 0) h (fun r h2 => r = none ∧ MK m h h2 ∧ OrdR m h2 (ordL σ i)) nX 99 [.ref m, .int x, .int z, .int y] [] h' 0 0 := by
            intro h' hk o
            refine blk kX5_orders_99 ?_
            exact ih (c + 1) _ _ _ (by omega) (by rw [hz]; exact nI_1 c) hk o
          have skip : ¬ (inH (gT σ) y ∧ ¬ nI 2 ≤ (gT σ).2 11 y.toNatClampNeg ∧ y.toNatClampNeg ∉ L) → WW G mX5_orders (rmO 5 0 0) h (fun r h2 => r = none ∧ MK m h h2 ∧ OrdR m h2 (ordL σ i)) nX 99 [.ref m, .int x, .int z, .int y] [] h' 0 0 := by
            intro c
            rw [if_neg c] at eS
            exact nxt _ hk (by rw [eS]; exact o)
          refine br_c (fun c3 => ?_) (fun c3 => ?_)
          · exact skip (fun q => bI_eq c3 (by have := q.1; unfold inH at this; rw [en] at this; exact this))
          · have c3 := bI_ne c3
            obtain ⟨y1, y2⟩ := inN_ix c3 (by omega)
            refine blk kX5_orders_64 ?_
            refine ⟨_, _, hM.1, rfl, hM.steps_.1, ?_⟩
            refine ⟨_, _, hM.steps_.2.1, Or.inl rfl, y1, Nat.lt_of_lt_of_eq (by omega) hM.steps_.2.2.symm, ?_⟩
            refine br_c (fun c4 => ?_) (fun c4 => ?_)
            · have c4 : nI 2 ≤ Ai h' (m + 13) y.toNatClampNeg := c4
              rw [hT.steps_ y2] at c4
              exact skip (fun q => q.2.1 c4)
            · have c4 : ¬ nI 2 ≤ Ai h' (m + 13) y.toNatClampNeg := c4
              rw [hT.steps_ y2] at c4
              refine blk kX5_orders_74 ?_
              refine callv_r hM.1 (c_isIn (b := y.toNatClampNeg) hM o (by omega) (fun a ha => by have := lo.2 a ha; omega) (by omega) y1) ?_
              refine brn_c (fun c5 => ?_) (fun c5 => ?_)
              · exact skip (fun q => q.2.2 (bI_ne c5))
              · have c5 := bI_eq c5
                have hlt := lo.lt y2 c5
                refine blk kX5_orders_82 ?_
                refine ⟨_, _, hM.1, rfl, hM.order_.1, ?_⟩
                refine ⟨rfl, ?_⟩
                refine ⟨_, hM.1, rfl, ?_⟩
                refine ⟨_, hM.1, rfl, ?_⟩
                refine ⟨L.length, hM.order_.2.1, o.1, Nat.lt_of_lt_of_eq (by omega) hM.order_.2.2.symm, ?_⟩
                refine nxt _ (hk.tr ((MK.sFi rfl).tr (MK.sAi rfl))) ?_
                rw [if_pos ⟨by unfold inH; rw [en]; exact c3, c4, c5⟩] at eS
                rw [eS]
                exact o.snoc (show Fi h' 73 m + nI 1 = _ by rw [o.1]; exact nI_add _ 1) y1
      exact loop N 0 _ _ _ (by omega) rfl k0 o0
  · have c1 : Ai h (m + 18) i = nI 4 := c1
    rw [e3] at c1
    refine blk kX5_orders_15 ?_
    refine ⟨_, _, hM.1, rfl, hM.by_.1, ?_⟩
    refine ⟨i, _, hM.by_.2.1, Or.inl rfl, hx, Nat.lt_of_lt_of_eq (by omega) hM.by_.2.2.symm, ?_⟩
    refine callv_g hM.1 (c_saves (k0.MSh hM) (k0.MTw t) o0) (fun r1 h1 hO => ?_)
    obtain ⟨rfl, k2, o2⟩ := hO
    refine ⟨trivial, rfl, k0.tr k2, ?_⟩
    rw [show ordL σ i = oSav (gT σ) (gS σ 4 i) from if_pos c1, ← e4]
    exact o2
