set_option maxRecDepth 100000
/-! the rule that saves: steps raised in turn -/
def stpL (T : Tw) (L : List Nat) : Tw := (T.1, fun a i => if a = 11 ∧ i ∈ L then T.2 11 i + nI 1 else T.2 a i)
theorem stpL_nil {T : Tw} : stpL T [] = T := by
  unfold stpL
  refine Prod.ext rfl ?_
  funext a i
  dsimp only
  rw [if_neg (by simp)]
theorem stpL_snoc {T : Tw} {L : List Nat} {b : Nat} (hb : b ∉ L) : up11 (stpL T L) b = stpL T (L ++ [b]) := by
  unfold up11 setA stpL
  refine Prod.ext rfl ?_
  funext a i
  dsimp only
  rw [up2_ap]
  by_cases e : a = 11 ∧ i = b
  · rw [if_pos e, if_neg (fun q => hb q.2), if_pos (by rw [e.1, e.2]; simp), e.2]
  · rw [if_neg e]
    by_cases e2 : a = 11 ∧ i ∈ L
    · rw [if_pos e2, if_pos ⟨e2.1, by simp [e2.2]⟩]
    · rw [if_neg e2, if_neg (fun q => by
        have h2 := q.2
        simp at h2
        rcases h2 with h2 | h2
        · exact e2 ⟨q.1, h2⟩
        · exact e ⟨q.1, h2⟩)]
theorem stpL_ok {T : Tw} {L : List Nat} {s n k : Nat} (t : TOK T s n k) (hL : ∀ i ∈ L, ¬ T.2 11 i = nI 2) : TOK (stpL T L) s n k := by
  refine ⟨t.1, t.2.1, t.2.2.1, t.2.2.2.1, fun i hi => ?_, fun i hi => ?_, fun i hi => ?_⟩
  · show Rg 0 7 (if _ then _ else _) ∧ Rg 0 7 (if _ then _ else _)
    rw [if_neg (by omega), if_neg (by omega)]; exact t.2.2.2.2.1 i hi
  · show Rg 0 99 (if _ then _ else _) ∧ Rg 0 9 (if _ then _ else _)
    rw [if_neg (by omega), if_neg (by omega)]; exact t.2.2.2.2.2.1 i hi
  · obtain ⟨h1, h2, h3, h4, h5, h6, h7, h8, h9⟩ := t.house hi
    have e : ∀ a, a ≠ 11 → (stpL T L).2 a i = T.2 a i := fun a ha => if_neg (fun q => ha q.1)
    unfold HOK
    rw [e 4 (by decide), e 5 (by decide), e 6 (by decide), e 7 (by decide), e 8 (by decide), e 9 (by decide), e 10 (by decide), e 12 (by decide)]
    refine ⟨h1, h2, h3, h4, h5, h6, h7, ?_, h9⟩
    show Rg 0 2 (if _ then _ else _)
    split
    · rename_i e
      exact rg_add1 h8 (hL i e.2)
    · exact h8
def svB (w : Nat → Int64) (n k : Nat) (a : Int32) (T : Tw) (L : List Nat) : Nat → Int32 × Int64
  | 0 => (-1, lN 0)
  | i + 1 => if T.2 11 i = nI 2 ∨ a < T.2 8 i ∨ i ∈ L then svB w n k a T L i else if (svB w n k a T L i).1 = -1 ∨ meS (up11 T i) n w k < (svB w n k a T L i).2 then (nI i, meS (up11 T i) n w k) else svB w n k a T L i
theorem svB_in {w : Nat → Int64} {n k : Nat} {a : Int32} {T : Tw} {L : List Nat} : ∀ i, i ≤ 10 → (svB w n k a T L i).1 = -1 ∨ ∃ b, b < i ∧ (svB w n k a T L i).1 = nI b ∧ ¬ T.2 11 b = nI 2 ∧ b ∉ L
  | 0, _ => Or.inl rfl
  | i + 1, hi => by
    have ih := svB_in (w := w) (n := n) (k := k) (a := a) (T := T) (L := L) i (by omega)
    have ih2 : (svB w n k a T L i).1 = -1 ∨ ∃ b, b < i + 1 ∧ (svB w n k a T L i).1 = nI b ∧ ¬ T.2 11 b = nI 2 ∧ b ∉ L := by
      rcases ih with h | ⟨b, h1, h2⟩
      · exact Or.inl h
      · exact Or.inr ⟨b, by omega, h2⟩
    unfold svB
    split
    · exact ih2
    · rename_i c
      split
      · exact Or.inr ⟨i, by omega, rfl, fun q => c (Or.inl q), fun q => c (Or.inr (Or.inr q))⟩
      · exact ih2
def savF (w : Nat → Int64) (n k : Nat) (a : Int32) (T : Tw) : Nat → List Nat → List Nat
  | 0, L => L
  | f + 1, L => if (svB w n k a (stpL T L) L n).1 = -1 then L else savF w n k a T f (L ++ [(svB w n k a (stpL T L) L n).1.toNatClampNeg])
theorem nI_m1 {b : Nat} (h : b < 2 ^ 31) : ¬ nI b = -1 := fun e => by
  have := congrArg Int32.toInt e
  rw [nI_toInt h] at this
  have h2 : (-1 : Int32).toInt = -1 := rfl
  omega
theorem savF_ok {w : Nat → Int64} {n k : Nat} {a : Int32} {T : Tw} (hn : n ≤ 10) : ∀ f L, LOK n L → LOK n (savF w n k a T f L)
  | 0, L, h => h
  | f + 1, L, h => by
    unfold savF
    split
    · exact h
    · rename_i c
      rcases svB_in (w := w) (n := n) (k := k) (a := a) (T := stpL T L) (L := L) n hn with q | ⟨b, h1, h2, h3, h4⟩
      · exact absurd q c
      · rw [h2, nI_clamp (by omega)]
        exact savF_ok hn f _ (h.snoc h1 h4)
def savL (T : Tw) (a : Int32) : List Nat := savF (wT T) (nHo T) (nSk T) a T (nHo T) []
def oSav (T : Tw) (a : Int32) : List Nat := restsL T (savL T a) (nHo T)
/-! steps that are raised for a while -/
def MK3 (m : Nat) (h h' : Hp) (f : Nat → Int32) : Prop := MK m (rAi h (m + 13) f) h'
theorem MKcg {m q i : Nat} {h h' : Hp} {v : Int32} (x : MK m h h') : MK m (sAi h q i v) (sAi h' q i v) := by
  refine ⟨⟨x.1.1, x.1.2.1, x.1.2.2.1, x.1.2.2.2⟩, x.2.1, fun o ho => ?_, x.2.2.2⟩
  show up2 (Ai h') q i v (m + o) = up2 (Ai h) q i v (m + o)
  funext j
  rw [up2_ap, up2_ap, x.2.2.1 o ho]
theorem MK3.set {m i : Nat} {h h' : Hp} {f : Nat → Int32} {v : Int32} (x : MK3 m h h' f) : MK3 m h (sAi h' (m + 13) i v) (up1 f i v) := by
  unfold MK3 at *
  have := MKcg (q := m + 13) (i := i) (v := v) x
  rw [sAi_rAi] at this
  exact this
theorem MK3.at {m : Nat} {h h' : Hp} {f : Nat → Int32} (x : MK3 m h h' f) : Ai h' (m + 13) = f := by
  rw [x.2.2.1 13 rfl, Ai_rAi]
theorem MK3.tr {m : Nat} {h h' h2 : Hp} {f : Nat → Int32} (x : MK3 m h h' f) (y : MK m h' h2) : MK3 m h h2 f := MK.tr x y
theorem MK3.rf {m : Nat} {h : Hp} : MK3 m h h (Ai h (m + 13)) := by unfold MK3; rw [rAi_self]; exact MK.rf m h
theorem MK3.MSh {m : Nat} {h h' : Hp} {f : Nat → Int32} (x : MK3 m h h' f) (s : MSh m h) : MSh m h' := MK.MSh x (by exact s)
theorem MK3.MTw {m : Nat} {h h' : Hp} {f : Nat → Int32} {T : Tw} {L : List Nat} {s n k : Nat} (x : MK3 m h h' f) (t : MTw m h T s n k) (hL : ∀ i ∈ L, ¬ T.2 11 i = nI 2) (hf : ∀ i, i < n → f i = (stpL T L).2 11 i) : MTw m h' (stpL T L) s n k := by
  refine MK.MTw x ⟨stpL_ok t.1 hL, t.2.1, fun a i ha hi => ?_⟩
  by_cases e : a = 11
  · subst e
    rw [Ai_rAi]
    exact hf i (by simpa [cn] using hi)
  · rw [Ai_rAi_ne (by omega)]
    show _ = if _ then _ else _
    rw [if_neg (fun q => e q.1)]
    exact t.2.2 a i ha hi
def stF (g : Nat → Int32) (L : List Nat) (c : Nat) : Nat → Int32 := fun i => if i ∈ L ∧ c ≤ i then g i + nI 1 else g i
