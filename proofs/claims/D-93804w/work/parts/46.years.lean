set_option maxRecDepth 100000
/-! what may change when the town changes -/
def tkA (o : Nat) : Bool := scA o || (decide (2 ≤ o) && decide (o ≤ 14))
def tkF (f : Nat) : Bool := scF f || (decide (29 ≤ f) && decide (f ≤ 38))
def TK (m : Nat) (h h' : Hp) : Prop := (Kd h' = Kd h ∧ Ln h' = Ln h ∧ Fr h' = Fr h ∧ Nx h' = Nx h) ∧ (∀ f, tkF f = false → Fi h' f m = Fi h f m) ∧ (∀ o, tkA o = false → Ai h' (m + o) = Ai h (m + o)) ∧ ∀ o, tkA o = false → Al h' (m + o) = Al h (m + o)
theorem TK.rf (m : Nat) (h : Hp) : TK m h h := ⟨⟨rfl, rfl, rfl, rfl⟩, fun _ _ => rfl, fun _ _ => rfl, fun _ _ => rfl⟩
theorem TK.tr {m : Nat} {a b c : Hp} (x : TK m a b) (y : TK m b c) : TK m a c :=
  ⟨⟨y.1.1.trans x.1.1, y.1.2.1.trans x.1.2.1, y.1.2.2.1.trans x.1.2.2.1, y.1.2.2.2.trans x.1.2.2.2⟩, fun f hf => (y.2.1 f hf).trans (x.2.1 f hf), fun o ho => (y.2.2.1 o ho).trans (x.2.2.1 o ho), fun o ho => (y.2.2.2 o ho).trans (x.2.2.2 o ho)⟩
theorem tkA_sc {o : Nat} (h : tkA o = false) : scA o = false := by unfold tkA at h; cases e : scA o <;> simp_all
theorem tkF_sc {f : Nat} (h : tkF f = false) : scF f = false := by unfold tkF at h; cases e : scF f <;> simp_all
theorem MK.tk {m : Nat} {h h' : Hp} (x : MK m h h') : TK m h h' := ⟨x.1, fun f hf => x.2.1 f (tkF_sc hf), fun o ho => x.2.2.1 o (tkA_sc ho), fun o ho => x.2.2.2 o (tkA_sc ho)⟩
theorem FQ.tk {m : Nat} {A L F : List Nat} {a b : Hp} (x : FQ m A L F a b) (hA : A.all tkA = true) (hL : L.all tkA = true) (hF : F.all tkF = true) : TK m a b := by
  have g : ∀ {X : List Nat} {p : Nat → Bool}, X.all p = true → ∀ o, p o = false → o ∉ X := fun h o ho hx => by
    have := List.all_eq_true.mp h o hx
    rw [ho] at this; cases this
  exact ⟨⟨x.1.1, x.1.2.1, x.1.2.2.1, x.1.2.2.2.1⟩, fun f hf => x.2.1 f (g hF f hf), fun o ho => x.2.2.1 o (g hA o ho), fun o ho => x.2.2.2 o (g hL o ho)⟩
theorem TK.sAi {m o i : Nat} {h : Hp} {v : Int32} (ho : tkA o = true) : TK m h (sAi h (m + o) i v) := FQ.tk (A := [o]) (L := []) (F := []) (FQ.sAi (by simp)) (by simp [ho]) rfl rfl
theorem TK.sFi {m f : Nat} {h : Hp} {v : Int32} (hf : tkF f = true) : TK m h (sFi h f m v) := FQ.tk (A := []) (L := []) (F := [f]) (FQ.sFi (by simp)) rfl rfl (by simp [hf])
theorem TK.MSh {m : Nat} {h h' : Hp} (x : TK m h h') (s : MSh m h) : MSh m h' := by
  unfold CStrengthenFirstLaw_law_r1973_a72b69.MSh
  rw [x.1.1, x.1.2.1, x.1.2.2.1]
  exact s
theorem MRep.tk {m : Nat} {h h' : Hp} {σ : Sg} {T : Tw} {s n k : Nat} (r : MRep m h σ) (x : TK m h h') (t : MTw m h' T s n k) : MRep m h' (T, σ.2) := by
  obtain ⟨r1, -, r3, r4, r5, r6, r7, r8, r9, r10⟩ := r
  refine ⟨x.MSh r1, ⟨s, n, k, t⟩, fun i hi => ?_, fun a i ha hi => ?_, fun i hi => ?_, ?_, fun i hi => ?_, ?_, fun i hi => ?_, r10⟩
  · rw [x.2.2.1 1 rfl]; exact r3 i hi
  · rcases (by omega : a = 0 ∨ a = 1 ∨ a = 2 ∨ a = 3 ∨ a = 4) with q | q | q | q | q <;> subst q <;> (rw [x.2.2.1 _ rfl]; exact r4 _ i ha hi)
  · rw [x.2.2.2 20 rfl]; exact r5 i hi
  · rw [x.2.1 39 rfl, x.2.1 83 rfl, x.2.1 84 rfl]; exact r6
  · rw [x.2.2.1 32 rfl]; exact r7 i hi
  · rw [x.2.2.1 24 rfl]; exact r8
  · rw [x.2.2.1 22 rfl]; exact r9 i hi
/-! years in truth -/
def drwS (T : Tw) : Tw := setS T 9 (T.1 9 * nI 1103515245 + nI 12345)
def rshU (x : Int32) : Int32 := (x.toUInt32 >>> ((nI 16).toUInt32 &&& Int32.toUInt32 31)).toInt32
def drwV (T : Tw) (n : Int32) : Int32 := rshU (T.1 9 * nI 1103515245 + nI 12345) - rshU (T.1 9 * nI 1103515245 + nI 12345) / n * n
theorem c_draw {G : GG} {h : Hp} {m s n k : Nat} {T : Tw} {x : Int32} (hM : MSh m h) (hT : MTw m h T s n k) (hx : ¬ x = 0) : Ct G mX5_draw 0 0 0 [.ref m, .int x] h (fun r h2 => r = some (.int (drwV T x)) ∧ MTw m h2 (drwS T) s n k ∧ FQ m [] [] [38] h h2) nX := by
  refine Ct.mk ok_mX5_draw ?_
  refine blk kX5_draw_0 ?_
  refine ⟨_, hM.1, rfl, ?_⟩
  refine ⟨_, hM.1, rfl, ?_⟩
  refine ⟨_, hM.1, rfl, ?_⟩
  refine ⟨hx, ?_⟩
  refine ⟨trivial, ?_, ?_, FQ.sFi (by decide)⟩
  · rw [show Fi (sFi h 38 m (Fi h 38 m * nI 1103515245 + nI 12345)) 38 m = Fi h 38 m * nI 1103515245 + nI 12345 from Fi_sFi]
    rw [show Fi h 38 m = T.1 9 from hT.seed_]
    rfl
  · have := hT.setS_ (j := 9) (v := T.1 9 * nI 1103515245 + nI 12345) (by decide)
    rw [← hT.seed_] at this
    unfold drwS
    rw [← hT.seed_]
    exact this
def falS (T : Tw) (k : Nat) : Nat → Tw × Int32
  | 0 => (T, nI 0)
  | i + 1 => (drwS (falS T k i).1, if fallsP (drwS (falS T k i).1) i k ≤ drwV (falS T k i).1 (nI 10) then (falS T k i).2 else (falS T k i).2 ||| (nI 1 <<< (nI i &&& 31)))
def cntS (T : Tw) (set cut hour lost : Int32) : Nat → Int32 × Int32
  | 0 => (lost, nI 0)
  | i + 1 => if bitP set (nI i) = true then ((cntS T set cut hour lost i).1 + pplP T i hour, (cntS T set cut hour lost i).2) else if bitP cut (T.2 4 i) = true then ((cntS T set cut hour lost i).1, (cntS T set cut hour lost i).2 + pplP T i hour) else cntS T set cut hour lost i
/-- a shake that comes -/
def shkE (q : Int32 × Int32) (shut : Int32) : Int32 := q.1 + q.2 * shut / nI 10
def shkD (p : Tw × Int32) (hour lost shut : Int32) (s n : Nat) : Tw × Int32 := (p.1, shkE (cntS p.1 p.2 (cutP p.1 p.2 s n) hour lost n) shut)
def shkC (T : Tw) (lost : Int32) (k : Nat) : Tw × Int32 := shkD (falS (drwS T) k (nHo T)) (if T.1 5 ≤ drwV T (nI 10) then nI 1 else nI 0) lost (T.1 4) (nSt T) (nHo T)
theorem drwS_4 {T : Tw} : (drwS T).1 4 = T.1 4 := by
  show up1 T.1 9 (T.1 9 * nI 1103515245 + nI 12345) 4 = _
  rw [up1_ap, if_neg (by decide)]
theorem falS_4 {T : Tw} {k : Nat} : ∀ i, (falS T k i).1.1 4 = T.1 4
  | 0 => rfl
  | i + 1 => (drwS_4 (T := (falS T k i).1)).trans (falS_4 i)
def shkS (T : Tw) (lost : Int32) (k : Nat) : Tw × Int32 := if drwV T (nI 1000) < T.2 2 k then shkC (drwS T) lost k else (drwS T, lost)
def shkL (T : Tw) : Nat → Tw × Int32
  | 0 => (T, nI 0)
  | k + 1 => shkS (shkL T k).1 (shkL T k).2 k
def capS (x : Int32) : Int32 := if x ≤ nI 99 then x else nI 99
def agS (T : Tw) : Nat → Tw
  | 0 => T
  | i + 1 => setA (setA (setA (agS T i) 12 i (nI 0)) 6 i (capS ((agS T i).2 6 i + (agS T i).2 11 i))) 7 i (capS ((agS T i).2 7 i + (agS T i).2 11 i))
def livT (T : Tw) (L : List Nat) : Tw := (yrS (fun j => L.getD j 0) L.length (T, 0, nI 0)).1
def livA (T : Tw) (L : List Nat) : Tw := agS (shkL (livT T L) (nSk T)).1 (nHo T)
def livS (T : Tw) (L : List Nat) : Tw × Int32 := (setS (setS (livA T L) 8 ((livA T L).1 8 + (shkL (livT T L) (nSk T)).2)) 7 ((livA T L).1 7 + nI 1), (shkL (livT T L) (nSk T)).2)
theorem bldS_md {R : Nat → Nat} : ∀ f p q, p.1 = q.1 → p.2.1 = q.2.1 → (bldS R f p).1 = (bldS R f q).1 ∧ (bldS R f p).2.1 = (bldS R f q).2.1
  | 0, p, q, h1, h2 => ⟨h1, h2⟩
  | f + 1, p, q, h1, h2 => by
    unfold bldS
    rw [h1, h2]
    split
    · exact bldS_md f _ _ rfl rfl
    · split
      · exact bldS_md f _ _ rfl rfl
      · exact ⟨h1, h2⟩
theorem cap_rg {x y : Int32} (hx : Rg 0 99 x) (hy : Rg 0 2 y) : Rg 0 99 (capS (x + y)) := by
  obtain ⟨e1, l1⟩ := hx.ix (N := 100) (by decide)
  obtain ⟨e2, l2⟩ := hy.ix (N := 3) (by decide)
  unfold capS
  rw [e1, e2, nI_add]
  split
  · rename_i c
    rw [nI_leI (by omega) (by omega)] at c
    exact rgN (by omega) (by omega) (by omega)
  · exact rgN (by decide) (by decide) (by decide)
theorem lv_cnt {G : GG} {h h' : Hp} {O : Option Value → Hp → Prop} {m s n k : Nat} {p : Tw × Int32} {x l0 z hour set cut : Int32} (hM : MSh m h') (hT : MTw m h' p.1 s n k) (hs : set = p.2) (hcu : cut = cutP p.1 p.2 s n)
    (nxt : ∀ (lost : Int32) (v4 v5 v6 v7 v8 : Value), lost = (shkD p hour l0 (p.1.1 4) s n).2 → WW G mX5_lives (rmO 7 0 0) h O nX 207 [.ref m, .int x, .int lost, .int z, v4, v5, v6, v7, v8] [] h' 0 0) : ∀ (q i : Nat) (w lost caught : Int32), i + q = n → w = nI i → (lost, caught) = cntS p.1 p.2 (cutP p.1 p.2 s n) hour l0 i → WW G mX5_lives (rmO 7 0 0) h O nX 125 [.ref m, .int x, .int lost, .int z, .int hour, .int set, .int caught, .int cut, .int w] [] h' 0 0 := by
  have hn := hT.n10
  intro q
  induction q with
  | zero =>
    intro i w lost caught hq hw hp
    have hi : n = i := by omega
    subst hi
    refine blk kX5_lives_125 ?_
    refine ⟨_, hM.1, rfl, ?_⟩
    refine br_t (by rw [hw]; exact Int32.le_of_eq hT.nH) ?_
    have e4 : Fi h' 33 m = p.1.1 4 := hT.shut_
    refine blk kX5_lives_194 ?_
    refine ⟨_, hM.1, rfl, ?_⟩
    refine ⟨by decide, ?_⟩
    rw [e4]
    refine nxt _ _ _ _ _ _ ?_
    unfold shkD
    rw [← hp]
    rfl
  | succ q ih2 =>
    intro i w lost caught hq hw hp
    have hi : i < n := by omega
    refine blk kX5_lives_125 ?_
    refine ⟨_, hM.1, rfl, ?_⟩
    refine br_f (by rw [hw, hT.nH]; exact nI_ge hi (by omega)) ?_
    have nx2 : ∀ lost caught : Int32, (lost, caught) = cntS p.1 p.2 (cutP p.1 p.2 s n) hour l0 (i + 1) → WW G mX5_lives (rmO 7 0 0) h O nX 188 [.ref m, .int x, .int lost, .int z, .int hour, .int set, .int caught, .int cut, .int w] [] h' 0 0 := by
      intro lost caught hp
      refine blk kX5_lives_188 ?_
      exact ih2 (i + 1) _ _ _ (by omega) (by rw [hw]; exact nI_add i 1) hp
    have eC : cntS p.1 p.2 (cutP p.1 p.2 s n) hour l0 (i + 1) = if bitP set (nI i) = true then (lost + pplP p.1 i hour, caught) else if bitP cut (p.1.2 4 i) = true then (lost, caught + pplP p.1 i hour) else (lost, caught) := by
      rw [hs, hcu]
      simp only [cntS]
      rw [← hp]
    refine blk kX5_lives_134 ?_
    refine brn_c (fun c2 => ?_) (fun c2 => ?_)
    · have b2 : ¬ bitP set (nI i) = true := by rw [← hw, bitP_f c2]; decide
      rw [if_neg b2] at eC
      have e6 : Ai h' (m + 6) i = p.1.2 4 i := hT.corner_ hi
      refine blk kX5_lives_159 ?_
      refine ⟨_, _, hM.1, rfl, hM.corner_.1, ?_⟩
      refine ⟨i, _, hM.corner_.2.1, Or.inl rfl, hw, Nat.lt_of_lt_of_eq (by omega) hM.corner_.2.2.symm, ?_⟩
      refine brn_c (fun c3 => ?_) (fun c3 => ?_)
      · have b3 : ¬ bitP cut (p.1.2 4 i) = true := by rw [← e6, bitP_f c3]; decide
        rw [if_neg b3] at eC
        exact nx2 _ _ eC.symm
      · have b3 : bitP cut (p.1.2 4 i) = true := by rw [← e6, bitP_t c3]
        rw [if_pos b3] at eC
        refine blk kX5_lives_175 ?_
        refine callv_r hM.1 (c_people hM hT hi hw) ?_
        exact nx2 _ _ eC.symm
    · have b2 : bitP set (nI i) = true := by rw [← hw, bitP_t c2]
      rw [if_pos b2] at eC
      refine blk kX5_lives_145 ?_
      refine callv_r hM.1 (c_people hM hT hi hw) ?_
      exact nx2 _ _ eC.symm
theorem lv_fall {G : GG} {h h0 : Hp} {O : Option Value → Hp → Prop} {m s n k c : Nat} {U : Tw} {x l0 z hour : Int32} (hM : MSh m h0) (hc : c < k) (hz : z = nI c)
    (nxt : ∀ (h' : Hp) (lost : Int32) (v4 v5 v6 v7 v8 : Value), FQ m [] [] [38] h0 h' → MTw m h' (falS U c n).1 s n k → lost = (shkD (falS U c n) hour l0 (U.1 4) s n).2 → WW G mX5_lives (rmO 7 0 0) h O nX 207 [.ref m, .int x, .int lost, .int z, v4, v5, v6, v7, v8] [] h' 0 0) : ∀ (q i : Nat) (w set : Int32) (v8 : Value) (h' : Hp), i + q = n → w = nI i → FQ m [] [] [38] h0 h' → MTw m h' (falS U c i).1 s n k → set = (falS U c i).2 → WW G mX5_lives (rmO 7 0 0) h O nX 74 [.ref m, .int x, .int l0, .int z, .int hour, .int set, .int (nI 0), .int w, v8] [] h' 0 0 := by
  have hM0 := hM
  intro q
  induction q with
  | zero =>
    intro i w set v8 h' hq hw f hT hs
    have hi : n = i := by omega
    subst hi
    have hM := f.MSh hM0
    refine blk kX5_lives_74 ?_
    refine ⟨_, hM.1, rfl, ?_⟩
    refine br_t (by rw [hw]; exact Int32.le_of_eq hT.nH) ?_
    obtain ⟨p, ep⟩ : ∃ p, p = falS U c n := ⟨_, rfl⟩
    have ep4 : p.1.1 4 = U.1 4 := by rw [ep, falS_4]
    rw [← ep] at hT hs nxt
    rw [← ep4] at nxt
    refine blk kX5_lives_114 ?_
    refine callv_r hM.1 (c_cutOf hM hT) ?_
    exact lv_cnt hM hT hs (by rw [hs]) (fun lost v4 v5 v6 v7 v8 hl => nxt h' lost v4 v5 v6 v7 v8 f hT hl) n 0 _ _ _ (by omega) rfl rfl
  | succ q ih2 =>
    intro i w set v8 h' hq hw f hT hs
    have hi : i < n := by omega
    have hn := hT.n10
    have hM := f.MSh hM0
    refine blk kX5_lives_74 ?_
    refine ⟨_, hM.1, rfl, ?_⟩
    refine br_f (by rw [hw, hT.nH]; exact nI_ge hi (by omega)) ?_
    have eF : falS U c (i + 1) = (drwS (falS U c i).1, if fallsP (drwS (falS U c i).1) i c ≤ drwV (falS U c i).1 (nI 10) then (falS U c i).2 else (falS U c i).2 ||| (nI 1 <<< (nI i &&& 31))) := rfl
    obtain ⟨V, eV⟩ : ∃ V, V = falS U c i := ⟨_, rfl⟩
    rw [← eV] at hT hs eF
    refine blk kX5_lives_83 ?_
    refine callv_g hM.1 (c_draw hM hT (by decide)) (fun r1 h1 hO => ?_)
    obtain ⟨rfl, hT4, f4⟩ := hO
    have f5 := f.tr f4
    have hM := f5.MSh hM0
    have nx2 : ∀ set : Int32, set = (falS U c (i + 1)).2 → WW G mX5_lives (rmO 7 0 0) h O nX 108 [.ref m, .int x, .int l0, .int z, .int hour, .int set, .int (nI 0), .int w, v8] [] h1 0 0 := by
      intro set hs
      refine blk kX5_lives_108 ?_
      exact ih2 (i + 1) _ _ _ _ (by omega) (by rw [hw]; exact nI_add i 1) f5 (by rw [eF]; exact hT4) hs
    refine callv_r hM.1 (c_fallsOf hM hT4 hi hc hw hz) ?_
    refine br_c (fun c2 => ?_) (fun c2 => ?_)
    · exact nx2 _ (by rw [eF, hs]; exact (if_pos c2).symm)
    · refine blk kX5_lives_99 ?_
      refine nx2 _ ?_
      rw [eF, hs, hw]
      exact (if_neg c2).symm
