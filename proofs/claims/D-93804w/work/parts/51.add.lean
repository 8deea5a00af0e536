set_option maxRecDepth 100000
/-! a street, a shake, a house more -/
def adS (T : Tw) (s : Nat) (a b : Int32) : Tw := (up1 T.1 0 (nI (s + 1)), fun r i => if i = s ∧ r = 0 then a else if i = s ∧ r = 1 then b else T.2 r i)
def adK (T : Tw) (k : Nat) (a b : Int32) : Tw := (up1 T.1 2 (nI (k + 1)), fun r i => if i = k ∧ r = 2 then a else if i = k ∧ r = 3 then b else T.2 r i)
def hoF (c w d e k : Int32) : Nat → Int32
  | 4 => c
  | 5 => w
  | 6 => d
  | 7 => e
  | 8 => k
  | 9 => -1
  | 10 => -1
  | _ => 0
def adH (T : Tw) (n : Nat) (c w d e k : Int32) : Tw := (up1 T.1 1 (nI (n + 1)), fun r i => if i = n ∧ 4 ≤ r then hoF c w d e k r else T.2 r i)
theorem HOK.mono {T T' : Tw} {s s' n n' i : Nat} (h : HOK T s n i) (e : ∀ r, 4 ≤ r → T'.2 r i = T.2 r i) (hs : s ≤ s') (hn : n ≤ n') : HOK T' s' n' i := by
  unfold HOK at *
  rw [e 4 (by decide), e 5 (by decide), e 6 (by decide), e 7 (by decide), e 8 (by decide), e 9 (by decide), e 10 (by decide), e 11 (by decide), e 12 (by decide)]
  obtain ⟨h1, h2, h3, h4, h5, h6, h7, h8⟩ := h
  exact ⟨h1, h2, h3, h4, h5, h6.mono (by omega) (by omega), h7.mono (by omega) (by omega), h8⟩
theorem TOK.addS {T : Tw} {s n k : Nat} {a b : Int32} (t : TOK T s n k) (hs : s < 12) (ha : Rg 0 7 a) (hb : Rg 0 7 b) : TOK (adS T s a b) (s + 1) n k := by
  have e1 : ∀ j, j ≠ 0 → (adS T s a b).1 j = T.1 j := fun j hj => by show up1 T.1 0 (nI (s + 1)) j = _; rw [up1_ap, if_neg hj]
  have e2 : ∀ r i, 2 ≤ r → (adS T s a b).2 r i = T.2 r i := fun r i hr => by show (if i = s ∧ r = 0 then a else if i = s ∧ r = 1 then b else T.2 r i) = _; rw [if_neg (by omega), if_neg (by omega)]
  refine ⟨⟨?_, hs⟩, ⟨(e1 1 (by decide)).trans t.2.1.1, t.2.1.2⟩, ⟨(e1 2 (by decide)).trans t.2.2.1.1, t.2.2.1.2⟩, ?_, fun i hi => ?_, fun i hi => ?_, fun i hi => ?_⟩
  · show up1 T.1 0 (nI (s + 1)) 0 = _; rw [up1_ap, if_pos rfl]
  · rw [e1 3 (by decide), e1 4 (by decide), e1 5 (by decide)]; exact t.2.2.2.1
  · show Rg 0 7 (if i = s ∧ 0 = 0 then a else if i = s ∧ 0 = 1 then b else T.2 0 i) ∧ Rg 0 7 (if i = s ∧ 1 = 0 then a else if i = s ∧ 1 = 1 then b else T.2 1 i)
    by_cases e : i = s
    · rw [if_pos ⟨e, rfl⟩, if_neg (by omega), if_pos ⟨e, rfl⟩]; exact ⟨ha, hb⟩
    · rw [if_neg (by omega), if_neg (by omega), if_neg (by omega), if_neg (by omega)]; exact t.street (by omega)
  · rw [e2 2 i (by decide), e2 3 i (by decide)]; exact t.shake hi
  · exact (t.house hi).mono (fun r hr => e2 r i (by omega)) (by omega) (by omega)
theorem TOK.addK {T : Tw} {s n k : Nat} {a b : Int32} (t : TOK T s n k) (hk : k < 4) (ha : Rg 0 99 a) (hb : Rg 0 9 b) : TOK (adK T k a b) s n (k + 1) := by
  have e1 : ∀ j, j ≠ 2 → (adK T k a b).1 j = T.1 j := fun j hj => by show up1 T.1 2 (nI (k + 1)) j = _; rw [up1_ap, if_neg hj]
  have e2 : ∀ r i, r ≠ 2 → r ≠ 3 → (adK T k a b).2 r i = T.2 r i := fun r i hr h3 => by show (if i = k ∧ r = 2 then a else if i = k ∧ r = 3 then b else T.2 r i) = _; rw [if_neg (by omega), if_neg (by omega)]
  refine ⟨⟨(e1 0 (by decide)).trans t.1.1, t.1.2⟩, ⟨(e1 1 (by decide)).trans t.2.1.1, t.2.1.2⟩, ⟨?_, hk⟩, ?_, fun i hi => ?_, fun i hi => ?_, fun i hi => ?_⟩
  · show up1 T.1 2 (nI (k + 1)) 2 = _; rw [up1_ap, if_pos rfl]
  · rw [e1 3 (by decide), e1 4 (by decide), e1 5 (by decide)]; exact t.2.2.2.1
  · rw [e2 0 i (by decide) (by decide), e2 1 i (by decide) (by decide)]; exact t.street hi
  · show Rg 0 99 (if i = k ∧ 2 = 2 then a else if i = k ∧ 2 = 3 then b else T.2 2 i) ∧ Rg 0 9 (if i = k ∧ 3 = 2 then a else if i = k ∧ 3 = 3 then b else T.2 3 i)
    by_cases e : i = k
    · rw [if_pos ⟨e, rfl⟩, if_neg (by omega), if_pos ⟨e, rfl⟩]; exact ⟨ha, hb⟩
    · rw [if_neg (by omega), if_neg (by omega), if_neg (by omega), if_neg (by omega)]; exact t.shake (by omega)
  · exact (t.house hi).mono (fun r hr => e2 r i (by omega) (by omega)) (by omega) (by omega)
theorem TOK.addH {T : Tw} {s n k : Nat} {c w d e q : Int32} (t : TOK T s n k) (hn : n < 10) (hc : Rg 0 7 c) (hw : Rg 0 9 w) (hd : Rg 0 99 d) (he : Rg 0 99 e) (hq : Rg 1 99 q) : TOK (adH T n c w d e q) s (n + 1) k := by
  have e1 : ∀ j, j ≠ 1 → (adH T n c w d e q).1 j = T.1 j := fun j hj => by show up1 T.1 1 (nI (n + 1)) j = _; rw [up1_ap, if_neg hj]
  have e2 : ∀ r i, r < 4 ∨ i ≠ n → (adH T n c w d e q).2 r i = T.2 r i := fun r i hr => by show (if i = n ∧ 4 ≤ r then hoF c w d e q r else T.2 r i) = _; rw [if_neg (by omega)]
  refine ⟨⟨(e1 0 (by decide)).trans t.1.1, t.1.2⟩, ⟨?_, hn⟩, ⟨(e1 2 (by decide)).trans t.2.2.1.1, t.2.2.1.2⟩, ?_, fun i hi => ?_, fun i hi => ?_, fun i hi => ?_⟩
  · show up1 T.1 1 (nI (n + 1)) 1 = _; rw [up1_ap, if_pos rfl]
  · rw [e1 3 (by decide), e1 4 (by decide), e1 5 (by decide)]; exact t.2.2.2.1
  · rw [e2 0 i (by omega), e2 1 i (by omega)]; exact t.street hi
  · rw [e2 2 i (by omega), e2 3 i (by omega)]; exact t.shake hi
  · by_cases e9 : i = n
    · have e3 : ∀ r, 4 ≤ r → (adH T n c w d e q).2 r i = hoF c w d e q r := fun r hr => if_pos ⟨e9, hr⟩
      unfold HOK
      rw [e3 4 (by decide), e3 5 (by decide), e3 6 (by decide), e3 7 (by decide), e3 8 (by decide), e3 9 (by decide), e3 10 (by decide), e3 11 (by decide), e3 12 (by decide)]
      have m1 : Int32.toInt (-1) = -1 := rfl
      have z0 : Int32.toInt 0 = 0 := rfl
      refine ⟨hc, hw, hd, he, hq, ⟨?_, ?_⟩, ⟨?_, ?_⟩, ⟨?_, ?_⟩, ⟨?_, ?_⟩⟩ <;> simp only [hoF] <;> omega
    · exact (t.house (by omega)).mono (fun r hr => e2 r i (Or.inr e9)) (by omega) (by omega)
theorem up2_at {α : Type} {f : Nat → Nat → α} {i k a b : Nat} {v : α} (h1 : a = i) (h2 : b = k) : up2 f i k v a b = v := if_pos ⟨h1, h2⟩
theorem MTw.addS {m : Nat} {h : Hp} {T : Tw} {s n k : Nat} {a b : Int32} (t : MTw m h T s n k) (hs : s < 12) (ha : Rg 0 7 a) (hb : Rg 0 7 b) : MTw m (sFi (sAi (sAi h (m + 2) s a) (m + 3) s b) 29 m (nI (s + 1))) (adS T s a b) (s + 1) n k := by
  refine ⟨t.1.addS hs ha hb, fun j hj => ?_, fun r i hr hi => ?_⟩
  · show up2 (Fi h) 29 m (nI (s + 1)) (29 + j) m = up1 T.1 0 (nI (s + 1)) j
    rw [up2_ap, up1_ap]
    by_cases e : j = 0
    · rw [if_pos ⟨by omega, rfl⟩, if_pos e]
    · rw [if_neg (by omega), if_neg e]; exact t.2.1 j hj
  · show up2 (up2 (Ai h) (m + 2) s a) (m + 3) s b (m + (2 + r)) i = if i = s ∧ r = 0 then a else if i = s ∧ r = 1 then b else T.2 r i
    rw [up2_ap, up2_ap]
    by_cases e0 : i = s ∧ r = 0
    · rw [if_neg (by omega), if_pos (by omega), if_pos e0]
    · by_cases e1 : i = s ∧ r = 1
      · rw [if_pos (by omega), if_neg e0, if_pos e1]
      · rw [if_neg (by omega), if_neg (by omega), if_neg e0, if_neg e1]
        refine t.2.2 r i hr ?_
        unfold cn at *
        split at hi
        · rename_i c2; rw [if_pos c2]; omega
        · rename_i c2; rw [if_neg c2]; exact hi
theorem MTw.addK {m : Nat} {h : Hp} {T : Tw} {s n k : Nat} {a b : Int32} (t : MTw m h T s n k) (hk : k < 4) (ha : Rg 0 99 a) (hb : Rg 0 9 b) : MTw m (sFi (sAi (sAi h (m + 4) k a) (m + 5) k b) 31 m (nI (k + 1))) (adK T k a b) s n (k + 1) := by
  refine ⟨t.1.addK hk ha hb, fun j hj => ?_, fun r i hr hi => ?_⟩
  · show up2 (Fi h) 31 m (nI (k + 1)) (29 + j) m = up1 T.1 2 (nI (k + 1)) j
    rw [up2_ap, up1_ap]
    by_cases e : j = 2
    · rw [if_pos ⟨by omega, rfl⟩, if_pos e]
    · rw [if_neg (by omega), if_neg e]; exact t.2.1 j hj
  · show up2 (up2 (Ai h) (m + 4) k a) (m + 5) k b (m + (2 + r)) i = if i = k ∧ r = 2 then a else if i = k ∧ r = 3 then b else T.2 r i
    rw [up2_ap, up2_ap]
    by_cases e0 : i = k ∧ r = 2
    · rw [if_neg (by omega), if_pos (by omega), if_pos e0]
    · by_cases e1 : i = k ∧ r = 3
      · rw [if_pos (by omega), if_neg e0, if_pos e1]
      · rw [if_neg (by omega), if_neg (by omega), if_neg e0, if_neg e1]
        refine t.2.2 r i hr ?_
        unfold cn at *
        split at hi
        · rename_i c2; rw [if_pos c2]; exact hi
        · rename_i c2; rw [if_neg c2]
          split at hi
          · rename_i c3; rw [if_pos c3]; omega
          · rename_i c3; rw [if_neg c3]; exact hi
theorem c_streets {G : GG} {h : Hp} {m s n k : Nat} {T : Tw} {a b : Int32} (hM : MSh m h) (t : MTw m h T s n k) (hs : s < 12) (ha : Rg 0 7 a) (hb : Rg 0 7 b) : Ct G mX5_streets 0 0 0 [.ref m, .int a, .int b] h (fun r h2 => r = some (.int (nI s)) ∧ FQ m [2, 3] [] [29] h h2 ∧ MTw m h2 (adS T s a b) (s + 1) n k) nX := by
  refine Ct.mk ok_mX5_streets ?_
  have e := t.nS
  refine blk kX5_streets_0 ?_
  refine ⟨_, _, hM.1, rfl, hM.sideA_.1, ?_⟩
  refine ⟨_, hM.1, rfl, ?_⟩
  refine ⟨s, hM.sideA_.2.1, e, Nat.lt_of_lt_of_eq (by omega) hM.sideA_.2.2.symm, ?_⟩
  refine ⟨_, _, hM.1, rfl, hM.sideB_.1, ?_⟩
  refine ⟨_, hM.1, rfl, ?_⟩
  refine ⟨s, hM.sideB_.2.1, e, Nat.lt_of_lt_of_eq (by omega) hM.sideB_.2.2.symm, ?_⟩
  refine ⟨rfl, ?_⟩
  refine ⟨_, hM.1, rfl, ?_⟩
  refine ⟨_, hM.1, rfl, ?_⟩
  refine ⟨trivial, by rw [show Fi (sAi (sAi h (m + 2) s a) (m + 3) s b) 29 m = nI s from e], (FQ.sAi (by decide)).tr ((FQ.sAi (by decide)).tr (FQ.sFi (by decide))), ?_⟩
  rw [show Fi (sAi (sAi h (m + 2) s a) (m + 3) s b) 29 m = nI s from e]
  dsimp only
  rw [nI_add]
  exact t.addS hs ha hb
theorem c_shakes {G : GG} {h : Hp} {m s n k : Nat} {T : Tw} {a b : Int32} (hM : MSh m h) (t : MTw m h T s n k) (hk : k < 4) (ha : Rg 0 99 a) (hb : Rg 0 9 b) : Ct G mX5_shakes 0 0 0 [.ref m, .int a, .int b] h (fun r h2 => r = some (.int (nI k)) ∧ FQ m [4, 5] [] [31] h h2 ∧ MTw m h2 (adK T k a b) s n (k + 1)) nX := by
  refine Ct.mk ok_mX5_shakes ?_
  have e := t.nK
  refine blk kX5_shakes_0 ?_
  refine ⟨_, _, hM.1, rfl, hM.chance_.1, ?_⟩
  refine ⟨_, hM.1, rfl, ?_⟩
  refine ⟨k, hM.chance_.2.1, e, Nat.lt_of_lt_of_eq (by omega) hM.chance_.2.2.symm, ?_⟩
  refine ⟨_, _, hM.1, rfl, hM.hard_.1, ?_⟩
  refine ⟨_, hM.1, rfl, ?_⟩
  refine ⟨k, hM.hard_.2.1, e, Nat.lt_of_lt_of_eq (by omega) hM.hard_.2.2.symm, ?_⟩
  refine ⟨rfl, ?_⟩
  refine ⟨_, hM.1, rfl, ?_⟩
  refine ⟨_, hM.1, rfl, ?_⟩
  refine ⟨trivial, by rw [show Fi (sAi (sAi h (m + 4) k a) (m + 5) k b) 31 m = nI k from e], (FQ.sAi (by decide)).tr ((FQ.sAi (by decide)).tr (FQ.sFi (by decide))), ?_⟩
  rw [show Fi (sAi (sAi h (m + 4) k a) (m + 5) k b) 31 m = nI k from e]
  dsimp only
  rw [nI_add]
  exact t.addK hk ha hb
