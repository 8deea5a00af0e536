set_option maxRecDepth 100000
/-! all rows of fresh houses -/
abbrev BB : Type := Option (Int64 × List Nat)
def updB (B : BB) (v : Int64) (L : List Nat) : BB := match B with
  | none => some (v, L)
  | some b => if v < b.1 then some (v, L) else some b
def itS (g : Nat → BB → BB) : Nat → BB → BB
  | 0, B => B
  | i + 1, B => g i (itS g i B)
def triS (T : Tw) (N : Nat) : Nat → List Nat → BB → BB
  | 0, L, B => updB B (lossL T L N) L
  | f + 1, L, B => itS (fun h B => if 0 < T.2 11 h ∨ h ∈ L then B else triS T N f (L ++ [h]) B) (nHo T) B
def frS (T : Tw) : Nat → Nat
  | 0 => 0
  | i + 1 => if T.2 11 i = 0 then frS T i + 1 else frS T i
theorem frS_le {T : Tw} : ∀ i, frS T i ≤ i
  | 0 => Nat.le_refl _
  | i + 1 => by
    have := frS_le (T := T) i
    unfold frS
    split <;> omega
def fnS (T : Tw) (L : List Nat) : Nat → Nat
  | 0 => 0
  | i + 1 => if T.2 11 i = 0 ∧ i ∉ L then fnS T L i + 1 else fnS T L i
theorem fnS_nil {T : Tw} : ∀ i, fnS T [] i = frS T i
  | 0 => rfl
  | i + 1 => by
    unfold fnS frS
    rw [fnS_nil i]
    by_cases e : T.2 11 i = 0
    · rw [if_pos ⟨e, by simp⟩, if_pos e]
    · rw [if_neg (fun q => e q.1), if_neg e]
theorem fnS_snoc {T : Tw} {L : List Nat} {b : Nat} : ∀ i, fnS T L i ≤ fnS T (L ++ [b]) i + (if b < i then 1 else 0)
  | 0 => Nat.zero_le _
  | i + 1 => by
    have ih := fnS_snoc (T := T) (L := L) (b := b) i
    unfold fnS
    by_cases e : i = b
    · subst e
      rw [if_neg (Nat.lt_irrefl i)] at ih
      rw [if_neg (fun q : T.2 11 i = 0 ∧ i ∉ L ++ [i] => q.2 (by simp)), if_pos (Nat.lt_succ_self i)]
      split <;> omega
    · have h1 : (i ∉ L ++ [b]) ↔ (i ∉ L) := by simp [e]
      have h2 : (if b < i + 1 then 1 else 0) = (if b < i then 1 else 0) := by
        by_cases q : b < i
        · rw [if_pos q, if_pos (by omega)]
        · rw [if_neg q, if_neg (by omega)]
      rw [h2]
      by_cases q : T.2 11 i = 0 ∧ i ∉ L
      · rw [if_pos q, if_pos ⟨q.1, h1.mpr q.2⟩]; omega
      · rw [if_neg q, if_neg (fun z => q ⟨z.1, h1.mp z.2⟩)]; exact ih
theorem fnS_ex {T : Tw} {L : List Nat} : ∀ i, 0 < fnS T L i → ∃ b, b < i ∧ T.2 11 b = 0 ∧ b ∉ L
  | 0, h => absurd h (Nat.lt_irrefl _)
  | i + 1, h => by
    unfold fnS at h
    split at h
    · rename_i c
      exact ⟨i, by omega, c⟩
    · obtain ⟨b, h1, h2⟩ := fnS_ex i h
      exact ⟨b, by omega, h2⟩
theorem updB_some {B : BB} {v : Int64} {L : List Nat} : ∃ b, updB B v L = some b := by
  unfold updB
  split
  · exact ⟨_, rfl⟩
  · split
    · exact ⟨_, rfl⟩
    · exact ⟨_, rfl⟩
theorem itS_keep {g : Nat → BB → BB} (hg : ∀ h B, (∃ b, B = some b) → ∃ b, g h B = some b) : ∀ i B, (∃ b, B = some b) → ∃ b, itS g i B = some b
  | 0, B, h => h
  | i + 1, B, h => hg i _ (itS_keep hg i B h)
theorem triS_keep {T : Tw} {N : Nat} : ∀ f L B, (∃ b, B = some b) → ∃ b, triS T N f L B = some b
  | 0, L, B, h => updB_some
  | f + 1, L, B, h => by
    unfold triS
    refine itS_keep (fun h B hB => ?_) _ B h
    split
    · exact hB
    · exact triS_keep f _ _ hB
theorem itS_some {g : Nat → BB → BB} {b : Nat} (hg : ∀ h B, (∃ b, B = some b) → ∃ b, g h B = some b) (hb : ∀ B, ∃ c, g b B = some c) : ∀ i B, b < i → ∃ c, itS g i B = some c
  | 0, B, h => absurd h (Nat.not_lt_zero _)
  | i + 1, B, h => by
    unfold itS
    by_cases e : b = i
    · subst e; exact hb _
    · exact hg i _ (itS_some hg hb i B (by omega))
theorem triS_some {T : Tw} {N : Nat} : ∀ f L B, f ≤ fnS T L (nHo T) → ∃ b, triS T N f L B = some b
  | 0, L, B, h => updB_some
  | f + 1, L, B, h => by
    obtain ⟨b, h1, h2, h3⟩ := fnS_ex (nHo T) (by omega : 0 < fnS T L (nHo T))
    unfold triS
    refine itS_some (b := b) (fun h B hB => ?_) (fun B => ?_) _ B h1
    · split
      · exact hB
      · exact triS_keep f _ _ hB
    · rw [if_neg (fun q => q.elim (fun q => by rw [h2] at q; exact absurd q (by decide)) h3)]
      refine triS_some f _ _ ?_
      have := fnS_snoc (T := T) (L := L) (b := b) (nHo T)
      rw [if_pos h1] at this
      omega
def lenB (B : BB) (K : Nat) : Prop := ∀ b, B = some b → b.2.length = K
theorem itS_len {g : Nat → BB → BB} {K : Nat} (hg : ∀ h B, lenB B K → lenB (g h B) K) : ∀ i B, lenB B K → lenB (itS g i B) K
  | 0, B, h => h
  | i + 1, B, h => hg i _ (itS_len hg i B h)
theorem triS_len {T : Tw} {N K : Nat} : ∀ f L B, L.length + f = K → lenB B K → lenB (triS T N f L B) K
  | 0, L, B, h, hB => by
    unfold triS updB
    split
    · intro b e; cases e; simpa using h
    · split
      · intro b e; cases e; simpa using h
      · exact hB
  | f + 1, L, B, h, hB => by
    unfold triS
    refine itS_len (fun h9 B hB => ?_) _ B hB
    split
    · exact hB
    · exact triS_len f _ _ (by simp; omega) hB
def bestB (T : Tw) (N : Nat) : Int64 × List Nat := (triS T N (frS T (nHo T)) [] none).getD (lN 0, [])
theorem bestB_is {T : Tw} {N : Nat} : triS T N (frS T (nHo T)) [] none = some (bestB T N) := by
  obtain ⟨b, e⟩ := triS_some (T := T) (N := N) (frS T (nHo T)) [] none (by rw [fnS_nil]; exact Nat.le_refl _)
  unfold bestB
  rw [e]; rfl
theorem bestB_len {T : Tw} {N : Nat} : (bestB T N).2.length = frS T (nHo T) := triS_len (T := T) (N := N) (K := frS T (nHo T)) (frS T (nHo T)) [] none (by simp) (fun b e => by cases e) _ bestB_is
def BR (m : Nat) (h : Hp) (B : BB) : Prop := match B with
  | none => Fi h 81 m = 0
  | some b => Fi h 81 m = nI 1 ∧ Fl h 80 m = b.1 ∧ ∀ i, i < b.2.length → Ai h (m + 30) i = nI (b.2.getD i 0)
theorem BR.mk_ {m : Nat} {h h' : Hp} {B : BB} (o : BR m h B) (e1 : Fi h' 81 m = Fi h 81 m) (e2 : Fl h' 80 m = Fl h 80 m) (e3 : Ai h' (m + 30) = Ai h (m + 30)) : BR m h' B := by
  unfold BR at *
  split
  · rw [e1]; exact o
  · rw [e1, e2, e3]; exact o
def TrR (m : Nat) (h : Hp) (L : List Nat) : Prop := ∀ i, i < L.length → Ai h (m + 31) i = nI (L.getD i 0)
abbrev tX (T : Tw) (L : List Nat) : Prop := ∀ i ∈ L, ¬ 0 < T.2 11 i
def trO (m : Nat) (h : Hp) (L : List Nat) (B : BB) : Option Value → Hp → Prop := fun r h2 => r = none ∧ MK m h h2 ∧ BR m h2 B ∧ TrR m h2 L
theorem c_tries0 {G : GG} {h : Hp} {m s n k N : Nat} {T : Tw} {L : List Nat} {B : BB} {x y z u : Int32} (hM : MSh m h) (hT : MTw m h T s n k) (lo : LOK n L) (hB : BR m h B) (tr : TrR m h L) (hx : x = nI N) (hN : N ≤ 20) (hy : y = nI L.length) (hz : u = nI L.length) : Ct G mX5_tries 5 0 0 [.ref m, .int x, .int y, .int z, .int u] h (trO m h L (triS T N 0 L B)) nX := by
  have hn := hT.n10
  have hlen := lo.len
  have hM0 := hM
  refine Ct.mk ok_mX5_tries ?_
  refine blk kX5_tries_0 ?_
  refine brn_f (by rw [hy, hz]) ?_
  refine blk kX5_tries_6 ?_
  have loop : ∀ (q i : Nat) (w : Int32) (v6 v7 : Value) (h' : Hp), i + q = L.length → w = nI i → FQ m [29] [] [] h h' → (∀ j, j < i → Ai h' (m + 29) j = nI (L.getD j 0)) → WW G mX5_tries (rmO 5 0 0) h (trO m h L (triS T N 0 L B)) nX 9 [.ref m, .int x, .int y, .int z, .int u, .int w, v6, v7] [] h' 0 0 := by
    intro q
    induction q with
    | zero =>
      intro i w v6 v7 h' hq hw f hr
      have hi : L.length = i := by omega
      subst hi
      have hM := f.MSh hM
      refine blk kX5_tries_9 ?_
      refine br_t (by rw [hw, hy]; exact Int32.le_refl _) ?_
      have f1 : FQ m [29] [] [75] h (sFi h' 75 m y) := (f.up rfl rfl rfl).tr (FQ.sFi (by decide))
      have hR : RowR m (sFi h' 75 m y) (fun j => L.getD j 0) L.length n := ⟨by omega, by rw [Fi_sFi, hy], fun j hj => ⟨lo.2 _ (getD_mem hj), hr j hj⟩⟩
      refine blk kX5_tries_35 ?_
      refine ⟨_, hM.1, rfl, ?_⟩
      refine callv_g hM.1 (c_planned hM (f1.MTw hT rfl rfl) hR hx hN) (fun r1 h1 hO => ?_)
      obtain ⟨rfl, f2, -⟩ := hO
      have hM := hM0
      have f3 : FQ m [25, 29] [26, 27] [75, 76, 77] h h1 := (f1.up rfl rfl rfl).tr (f2.up rfl rfl rfl)
      have hM := f3.MSh hM
      refine ⟨_, hM.1, rfl, ?_⟩
      have hB3 : BR m h1 B := hB.mk_ (f3.2.1 81 (by decide)) (by rw [f3.1.2.2.2.2]) (f3.2.2.1 30 (by decide))
      have tr3 : TrR m h1 L := fun i hi => by rw [f3.2.2.1 31 (by decide)]; exact tr i hi
      have k3 : MK m h h1 := f3.mk rfl rfl rfl
      have ev : (plS (fun j => L.getD j 0) L.length T N).2 = lossL T L N := rfl
      rw [ev]
      have set_ : triS T N 0 L B = some (lossL T L N, L) → WW G mX5_tries (rmO 5 0 0) h (trO m h L (triS T N 0 L B)) nX 65 [.ref m, .int x, .int y, .int z, .int u, .long (lossL T L N), dV, v7] [] h1 0 0 := by
        intro eB
        rw [eB]
        refine blk kX5_tries_65 ?_
        refine ⟨_, hM.1, rfl, Or.inr rfl, ?_⟩
        refine ⟨_, hM.1, rfl, ?_⟩
        have loop2 : ∀ (q i : Nat) (w : Int32) (h' : Hp), i + q = L.length → w = nI i → MK m h h' → Fi h' 81 m = nI 1 → Fl h' 80 m = lossL T L N → (∀ j, j < i → Ai h' (m + 30) j = nI (L.getD j 0)) → TrR m h' L → WW G mX5_tries (rmO 5 0 0) h (trO m h L (some (lossL T L N, L))) nX 79 [.ref m, .int x, .int y, .int z, .int u, .long (lossL T L N), dV, .int w] [] h' 0 0 := by
          intro q
          induction q with
          | zero =>
            intro i w h' hq hw hk e1 e2 hr tr
            have hi : L.length = i := by omega
            subst hi
            have hM := hk.MSh hM0
            refine blk kX5_tries_79 ?_
            refine br_t (by rw [hw, hy]; exact Int32.le_refl _) ?_
            refine blk kX5_tries_105 ?_
            exact ⟨trivial, rfl, hk, ⟨e1, e2, hr⟩, tr⟩
          | succ q ih =>
            intro i w h' hq hw hk e1 e2 hr tr
            have hi : i < L.length := by omega
            have hM := hk.MSh hM0
            refine blk kX5_tries_79 ?_
            refine br_f (by rw [hw, hy]; exact nI_ge hi (by omega)) ?_
            refine blk kX5_tries_85 ?_
            refine ⟨_, _, hM.1, rfl, hM.best_.1, ?_⟩
            refine ⟨_, _, hM.1, rfl, hM.tried_.1, ?_⟩
            refine ⟨i, _, hM.tried_.2.1, Or.inl rfl, hw, Nat.lt_of_lt_of_eq (by omega) hM.tried_.2.2.symm, ?_⟩
            refine ⟨i, hM.best_.2.1, hw, Nat.lt_of_lt_of_eq (by omega) hM.best_.2.2.symm, ?_⟩
            refine ih (i + 1) _ _ (by omega) (by rw [hw]; exact nI_add i 1) (hk.tr (MK.sAi rfl)) e1 e2 (fun j hj => ?_) (fun j hj => ?_)
            · by_cases e : j = i
              · subst e; rw [Ai_sAi_v]; exact tr j hi
              · rw [Ai_sAi_i e]; exact hr j (by omega)
            · rw [Ai_sAi_ne (by omega)]; exact tr j hj
        exact loop2 L.length 0 _ _ (by omega) rfl (k3.tr ((MK.sFi rfl).tr MK.sFl)) Fi_sFi (if_pos ⟨rfl, rfl⟩) (fun j hj => absurd hj (Nat.not_lt_zero _)) tr3
      have e0 : triS T N 0 L B = updB B (lossL T L N) L := rfl
      cases B with
      | none =>
        have hB3 : Fi h1 81 m = 0 := hB3
        refine br_t hB3 ?_
        exact set_ rfl
      | some b =>
        obtain ⟨b1, b2, b3⟩ := hB3
        refine br_f (by dsimp only; rw [b1]; decide) ?_
        refine blk kX5_tries_54 ?_
        refine ⟨_, hM.1, rfl, ?_⟩
        refine br_c (fun c1 => ?_) (fun c1 => ?_)
        · have c1 := (lg_cmp_lt _ _).mp c1
          rw [b2] at c1
          exact set_ (if_pos c1)
        · have c1 : ¬ lossL T L N < Fl h1 80 m := fun q => c1 ((lg_cmp_lt _ _).mpr q)
          rw [b2] at c1
          refine blk kX5_tries_64 ?_
          exact ⟨trivial, rfl, k3, by rw [show triS T N 0 L (some b) = some b from if_neg c1]; exact ⟨b1, b2, b3⟩, tr3⟩
    | succ q ih =>
      intro i w v6 v7 h' hq hw f hr
      have hi : i < L.length := by omega
      have hM := f.MSh hM
      refine blk kX5_tries_9 ?_
      refine br_f (by rw [hw, hy]; exact nI_ge hi (by omega)) ?_
      refine blk kX5_tries_15 ?_
      refine ⟨_, _, hM.1, rfl, hM.row_.1, ?_⟩
      refine ⟨_, _, hM.1, rfl, hM.tried_.1, ?_⟩
      refine ⟨i, _, hM.tried_.2.1, Or.inl rfl, hw, Nat.lt_of_lt_of_eq (by omega) hM.tried_.2.2.symm, ?_⟩
      refine ⟨i, hM.row_.2.1, hw, Nat.lt_of_lt_of_eq (by omega) hM.row_.2.2.symm, ?_⟩
      refine ih (i + 1) _ _ _ _ (by omega) (by rw [hw]; exact nI_add i 1) (f.tr (FQ.sAi (by decide))) (fun j hj => ?_)
      by_cases e : j = i
      · subst e; rw [Ai_sAi_v, f.2.2.1 31 (by decide)]; exact tr j hi
      · rw [Ai_sAi_i e]; exact hr j (by omega)
  exact loop L.length 0 _ _ _ h (by omega) rfl (FQ.rf h) (fun j hj => absurd hj (Nat.not_lt_zero _))
