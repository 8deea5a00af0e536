set_option maxRecDepth 100000
def lnS (a : Nat) : Nat := if a < 2 then 12 else if a < 4 then 4 else 10
theorem koff_le : ∀ A a : Fin 14, a.1 < A.1 → koff a.1 + lnS a.1 ≤ koff A.1 := by decide +kernel
theorem cn_ln {s n k a : Nat} (hs : s ≤ 12) (hn : n ≤ 10) (hk : k ≤ 4) : cn s n k a ≤ lnS a := by
  unfold cn lnS
  split
  · exact hs
  · split
    · exact hk
    · exact hn
def alG (h : Hp) (m : Nat) (g : Nat → Int32) : Nat → Nat → Int32
  | 0 => g
  | a + 1 => cpF (alG h m g a) (Ai h (m + (2 + a))) (koff a) (lnS a)
theorem alG_at {h : Hp} {m : Nat} {g : Nat → Int32} {a i : Nat} (hi : i < lnS a) : ∀ A, A ≤ 13 → a < A → alG h m g A (koff a + i) = Ai h (m + (2 + a)) i
  | 0, _, h => absurd h (Nat.not_lt_zero _)
  | A + 1, hA, ha => by
    unfold alG cpF
    by_cases e : a = A
    · subst e
      rw [if_pos (by omega), show koff a + i - koff a = i by omega]
    · have := koff_le ⟨A, by omega⟩ ⟨a, by omega⟩ (by show a < A; omega)
      have h2 : koff a + lnS a ≤ koff A := this
      rw [if_neg (by omega)]
      exact alG_at hi A (by omega) (by omega)
def alN (g v : Nat → Int32) : Nat → Nat → Int32
  | 0 => g
  | j + 1 => up1 (alN g v j) (122 + j) (v j)
theorem alN_lo {g v : Nat → Int32} {i : Nat} (hi : i < 122) : ∀ j, alN g v j i = g i
  | 0 => rfl
  | j + 1 => by
    unfold alN
    rw [up1_ap, if_neg (by omega)]
    exact alN_lo hi j
theorem alN_hi {g v : Nat → Int32} {i : Nat} : ∀ j, i < j → alN g v j (122 + i) = v i
  | 0, h => absurd h (Nat.not_lt_zero _)
  | j + 1, h => by
    unfold alN
    rw [up1_ap]
    by_cases e : i = j
    · rw [if_pos (by rw [e]), e]
    · rw [if_neg (by omega)]; exact alN_hi j (by omega)
def kept (h : Hp) (m : Nat) (g0 : Nat → Int32) : Nat → Int32 := alN (alG h m g0 13) (fun j => Fi h (29 + j) m) 10
theorem kept_a {h : Hp} {m : Nat} {g0 : Nat → Int32} {a i : Nat} (ha : a < 13) (hi : i < lnS a) : kept h m g0 (koff a + i) = Ai h (m + (2 + a)) i := by
  unfold kept
  have := koff_le ⟨13, by omega⟩ ⟨a, by omega⟩ ha
  have h2 : koff a + lnS a ≤ 122 := this
  rw [alN_lo (by omega)]
  exact alG_at hi 13 (Nat.le_refl _) ha
theorem kept_n {h : Hp} {m : Nat} {g0 : Nat → Int32} {j : Nat} (hj : j < 10) : kept h m g0 (122 + j) = Fi h (29 + j) m := alN_hi 10 hj
theorem c_allI {G : GG} {h : Hp} {m q : Nat} (hM : MSh m h) (kq : Kd h q = 101) (lq : Ln h q = 150) (hq : ∀ a, a < 13 → q ≠ m + (2 + a)) : Ct G mX5_all 1 0 0 [.ref m, .ref q, .int (nI 0)] h (Rv none (rAi h q (kept h m (Ai h q)))) nX := by
  refine Ct.mk ok_mX5_all ?_
  have e0 : ∀ j, j < 10 → up1 (alN (alG h m (Ai h q) 13) (fun j => Fi h (29 + j) m) j) (122 + j) (Fi h (29 + j) m) = alN (alG h m (Ai h q) 13) (fun j => Fi h (29 + j) m) (j + 1) := fun j _ => rfl
  have w371 : WW G mX5_all (rmO 1 0 0) h (Rv none (rAi h q (kept h m (Ai h q)))) nX 371 [.ref m, .ref q, .int (nI 0), .int (nI 122)] [] (rAi h q (alN (alG h m (Ai h q) 13) (fun j => Fi h (29 + j) m) 10)) 0 0 := by
    refine blk kX5_all_371 ?_
    exact ⟨trivial, rfl, rfl⟩
  have w351 : WW G mX5_all (rmO 1 0 0) h (Rv none (rAi h q (kept h m (Ai h q)))) nX 351 [.ref m, .ref q, .int (nI 0), .int (nI 122)] [] (rAi h q (alN (alG h m (Ai h q) 13) (fun j => Fi h (29 + j) m) 8)) 0 0 := by
    refine blk kX5_all_351 ?_
    refine ⟨_, hM.1, rfl, ?_⟩
    refine ⟨130, kq, (nI_add 122 8), Nat.lt_of_lt_of_eq (by decide) lq.symm, ?_⟩
    refine ⟨_, hM.1, rfl, ?_⟩
    refine ⟨131, kq, (nI_add 122 9), Nat.lt_of_lt_of_eq (by decide) lq.symm, ?_⟩
    rw [sAi_rAi, sAi_rAi]
    exact w371
  have w331 : WW G mX5_all (rmO 1 0 0) h (Rv none (rAi h q (kept h m (Ai h q)))) nX 331 [.ref m, .ref q, .int (nI 0), .int (nI 122)] [] (rAi h q (alN (alG h m (Ai h q) 13) (fun j => Fi h (29 + j) m) 6)) 0 0 := by
    refine blk kX5_all_331 ?_
    refine ⟨_, hM.1, rfl, ?_⟩
    refine ⟨128, kq, (nI_add 122 6), Nat.lt_of_lt_of_eq (by decide) lq.symm, ?_⟩
    refine ⟨_, hM.1, rfl, ?_⟩
    refine ⟨129, kq, (nI_add 122 7), Nat.lt_of_lt_of_eq (by decide) lq.symm, ?_⟩
    rw [sAi_rAi, sAi_rAi]
    exact w351
  have w313 : WW G mX5_all (rmO 1 0 0) h (Rv none (rAi h q (kept h m (Ai h q)))) nX 313 [.ref m, .ref q, .int (nI 0), .int (nI 122)] [] (rAi h q (alN (alG h m (Ai h q) 13) (fun j => Fi h (29 + j) m) 4)) 0 0 := by
    refine blk kX5_all_313 ?_
    refine ⟨_, hM.1, rfl, ?_⟩
    refine ⟨126, kq, (nI_add 122 4), Nat.lt_of_lt_of_eq (by decide) lq.symm, ?_⟩
    refine ⟨_, hM.1, rfl, ?_⟩
    refine ⟨127, kq, (nI_add 122 5), Nat.lt_of_lt_of_eq (by decide) lq.symm, ?_⟩
    rw [sAi_rAi, sAi_rAi]
    exact w331
  have w295 : WW G mX5_all (rmO 1 0 0) h (Rv none (rAi h q (kept h m (Ai h q)))) nX 295 [.ref m, .ref q, .int (nI 0), .int (nI 122)] [] (rAi h q (alN (alG h m (Ai h q) 13) (fun j => Fi h (29 + j) m) 2)) 0 0 := by
    refine blk kX5_all_295 ?_
    refine ⟨_, hM.1, rfl, ?_⟩
    refine ⟨124, kq, (nI_add 122 2), Nat.lt_of_lt_of_eq (by decide) lq.symm, ?_⟩
    refine ⟨_, hM.1, rfl, ?_⟩
    refine ⟨125, kq, (nI_add 122 3), Nat.lt_of_lt_of_eq (by decide) lq.symm, ?_⟩
    rw [sAi_rAi, sAi_rAi]
    exact w313
  have w279 : WW G mX5_all (rmO 1 0 0) h (Rv none (rAi h q (kept h m (Ai h q)))) nX 279 [.ref m, .ref q, .int (nI 0), .int (nI 122)] [] (rAi h q (alN (alG h m (Ai h q) 13) (fun j => Fi h (29 + j) m) 0)) 0 0 := by
    refine blk kX5_all_279 ?_
    refine ⟨_, hM.1, rfl, ?_⟩
    refine ⟨122, kq, (rfl), Nat.lt_of_lt_of_eq (by decide) lq.symm, ?_⟩
    refine ⟨_, hM.1, rfl, ?_⟩
    refine ⟨123, kq, (nI_add 122 1), Nat.lt_of_lt_of_eq (by decide) lq.symm, ?_⟩
    rw [sAi_rAi, sAi_rAi]
    exact w295
  have w166 : WW G mX5_all (rmO 1 0 0) h (Rv none (rAi h q (kept h m (Ai h q)))) nX 166 [.ref m, .ref q, .int (nI 0), .int (nI 112)] [] (rAi h q (alG h m (Ai h q) 12)) 0 0 := by
    refine blk kX5_all_166 ?_
    refine ⟨_, _, hM.1, rfl, hM.propped_.1, ?_⟩
    refine callv_r hM.1 (c_keepsI (h := h) (g := alG h m (Ai h q) 12) (p := m + 14) (q := q) (n := 10) (f := 112) hM.propped_.2.1 kq (by rw [hM.propped_.2.2]; decide) (by rw [lq]; decide) (by rw [lq]; decide) (fun e => hq 12 (by decide) e.symm) rfl rfl) ?_
    refine br_t rfl ?_
    exact w279
  have w138 : WW G mX5_all (rmO 1 0 0) h (Rv none (rAi h q (kept h m (Ai h q)))) nX 138 [.ref m, .ref q, .int (nI 0), .int (nI 92)] [] (rAi h q (alG h m (Ai h q) 10)) 0 0 := by
    refine blk kX5_all_138 ?_
    refine ⟨_, _, hM.1, rfl, hM.next_.1, ?_⟩
    refine callv_r hM.1 (c_keepsI (h := h) (g := alG h m (Ai h q) 10) (p := m + 12) (q := q) (n := 10) (f := 92) hM.next_.2.1 kq (by rw [hM.next_.2.2]; decide) (by rw [lq]; decide) (by rw [lq]; decide) (fun e => hq 10 (by decide) e.symm) rfl rfl) ?_
    refine ⟨_, _, hM.1, rfl, hM.steps_.1, ?_⟩
    refine callv_r hM.1 (c_keepsI (h := h) (g := alG h m (Ai h q) 11) (p := m + 13) (q := q) (n := 10) (f := 102) hM.steps_.2.1 kq (by rw [hM.steps_.2.2]; decide) (by rw [lq]; decide) (by rw [lq]; decide) (fun e => hq 11 (by decide) e.symm) rfl rfl) ?_
    exact w166
  have w110 : WW G mX5_all (rmO 1 0 0) h (Rv none (rAi h q (kept h m (Ai h q)))) nX 110 [.ref m, .ref q, .int (nI 0), .int (nI 72)] [] (rAi h q (alG h m (Ai h q) 8)) 0 0 := by
    refine blk kX5_all_110 ?_
    refine ⟨_, _, hM.1, rfl, hM.cost_.1, ?_⟩
    refine callv_r hM.1 (c_keepsI (h := h) (g := alG h m (Ai h q) 8) (p := m + 10) (q := q) (n := 10) (f := 72) hM.cost_.2.1 kq (by rw [hM.cost_.2.2]; decide) (by rw [lq]; decide) (by rw [lq]; decide) (fun e => hq 8 (by decide) e.symm) rfl rfl) ?_
    refine ⟨_, _, hM.1, rfl, hM.front_.1, ?_⟩
    refine callv_r hM.1 (c_keepsI (h := h) (g := alG h m (Ai h q) 9) (p := m + 11) (q := q) (n := 10) (f := 82) hM.front_.2.1 kq (by rw [hM.front_.2.2]; decide) (by rw [lq]; decide) (by rw [lq]; decide) (fun e => hq 9 (by decide) e.symm) rfl rfl) ?_
    exact w138
  have w82 : WW G mX5_all (rmO 1 0 0) h (Rv none (rAi h q (kept h m (Ai h q)))) nX 82 [.ref m, .ref q, .int (nI 0), .int (nI 52)] [] (rAi h q (alG h m (Ai h q) 6)) 0 0 := by
    refine blk kX5_all_82 ?_
    refine ⟨_, _, hM.1, rfl, hM.day_.1, ?_⟩
    refine callv_r hM.1 (c_keepsI (h := h) (g := alG h m (Ai h q) 6) (p := m + 8) (q := q) (n := 10) (f := 52) hM.day_.2.1 kq (by rw [hM.day_.2.2]; decide) (by rw [lq]; decide) (by rw [lq]; decide) (fun e => hq 6 (by decide) e.symm) rfl rfl) ?_
    refine ⟨_, _, hM.1, rfl, hM.night_.1, ?_⟩
    refine callv_r hM.1 (c_keepsI (h := h) (g := alG h m (Ai h q) 7) (p := m + 9) (q := q) (n := 10) (f := 62) hM.night_.2.1 kq (by rw [hM.night_.2.2]; decide) (by rw [lq]; decide) (by rw [lq]; decide) (fun e => hq 7 (by decide) e.symm) rfl rfl) ?_
    exact w110
  have w54 : WW G mX5_all (rmO 1 0 0) h (Rv none (rAi h q (kept h m (Ai h q)))) nX 54 [.ref m, .ref q, .int (nI 0), .int (nI 32)] [] (rAi h q (alG h m (Ai h q) 4)) 0 0 := by
    refine blk kX5_all_54 ?_
    refine ⟨_, _, hM.1, rfl, hM.corner_.1, ?_⟩
    refine callv_r hM.1 (c_keepsI (h := h) (g := alG h m (Ai h q) 4) (p := m + 6) (q := q) (n := 10) (f := 32) hM.corner_.2.1 kq (by rw [hM.corner_.2.2]; decide) (by rw [lq]; decide) (by rw [lq]; decide) (fun e => hq 4 (by decide) e.symm) rfl rfl) ?_
    refine ⟨_, _, hM.1, rfl, hM.weak_.1, ?_⟩
    refine callv_r hM.1 (c_keepsI (h := h) (g := alG h m (Ai h q) 5) (p := m + 7) (q := q) (n := 10) (f := 42) hM.weak_.2.1 kq (by rw [hM.weak_.2.2]; decide) (by rw [lq]; decide) (by rw [lq]; decide) (fun e => hq 5 (by decide) e.symm) rfl rfl) ?_
    exact w82
  have w28 : WW G mX5_all (rmO 1 0 0) h (Rv none (rAi h q (kept h m (Ai h q)))) nX 28 [.ref m, .ref q, .int (nI 0), .int (nI 24)] [] (rAi h q (alG h m (Ai h q) 2)) 0 0 := by
    refine blk kX5_all_28 ?_
    refine ⟨_, _, hM.1, rfl, hM.chance_.1, ?_⟩
    refine callv_r hM.1 (c_keepsI (h := h) (g := alG h m (Ai h q) 2) (p := m + 4) (q := q) (n := 4) (f := 24) hM.chance_.2.1 kq (by rw [hM.chance_.2.2]; decide) (by rw [lq]; decide) (by rw [lq]; decide) (fun e => hq 2 (by decide) e.symm) rfl rfl) ?_
    refine ⟨_, _, hM.1, rfl, hM.hard_.1, ?_⟩
    refine callv_r hM.1 (c_keepsI (h := h) (g := alG h m (Ai h q) 3) (p := m + 5) (q := q) (n := 4) (f := 28) hM.hard_.2.1 kq (by rw [hM.hard_.2.2]; decide) (by rw [lq]; decide) (by rw [lq]; decide) (fun e => hq 3 (by decide) e.symm) rfl rfl) ?_
    exact w54
  have w0 : WW G mX5_all (rmO 1 0 0) h (Rv none (rAi h q (kept h m (Ai h q)))) nX 0 (ent [.ref m, .ref q, .int (nI 0)] (Ml mX5_all)) [] (rAi h q (alG h m (Ai h q) 0)) 0 0 := by
    refine blk kX5_all_0 ?_
    refine ⟨_, _, hM.1, rfl, hM.sideA_.1, ?_⟩
    refine callv_r hM.1 (c_keepsI (h := h) (g := alG h m (Ai h q) 0) (p := m + 2) (q := q) (n := 12) (f := 0) hM.sideA_.2.1 kq (by rw [hM.sideA_.2.2]; decide) (by rw [lq]; decide) (by rw [lq]; decide) (fun e => hq 0 (by decide) e.symm) rfl rfl) ?_
    refine ⟨_, _, hM.1, rfl, hM.sideB_.1, ?_⟩
    refine callv_r hM.1 (c_keepsI (h := h) (g := alG h m (Ai h q) 1) (p := m + 3) (q := q) (n := 12) (f := 12) hM.sideB_.2.1 kq (by rw [hM.sideB_.2.2]; decide) (by rw [lq]; decide) (by rw [lq]; decide) (fun e => hq 1 (by decide) e.symm) rfl rfl) ?_
    exact w28
  rw [show alG h m (Ai h q) 0 = Ai h q from rfl, rAi_self] at w0
  exact w0
def bkH (h : Hp) (m q : Nat) : Nat → Hp
  | 0 => h
  | a + 1 => rAi (bkH h m q a) (m + (2 + a)) (bkF (Ai (bkH h m q a) (m + (2 + a))) (Ai (bkH h m q a) q) (koff a) (lnS a))
theorem bkH_sk (h : Hp) (m q : Nat) : ∀ a, (Kd (bkH h m q a) = Kd h ∧ Ln (bkH h m q a) = Ln h ∧ Fr (bkH h m q a) = Fr h ∧ Nx (bkH h m q a) = Nx h ∧ Fl (bkH h m q a) = Fl h) ∧ Fi (bkH h m q a) = Fi h ∧ Al (bkH h m q a) = Al h
  | 0 => ⟨⟨rfl, rfl, rfl, rfl, rfl⟩, rfl, rfl⟩
  | a + 1 => bkH_sk h m q a
theorem bkH_off {h : Hp} {m q p : Nat} : ∀ a, (∀ b, b < a → p ≠ m + (2 + b)) → Ai (bkH h m q a) p = Ai h p
  | 0, _ => rfl
  | a + 1, hp => by
    show Ai (rAi _ _ _) p = _
    rw [Ai_rAi_ne (hp a (by omega))]
    exact bkH_off a (fun b hb => hp b (by omega))
theorem bkH_on {h : Hp} {m q b : Nat} (hq : ∀ a, a < 13 → q ≠ m + (2 + a)) : ∀ a, a ≤ 13 → b < a → Ai (bkH h m q a) (m + (2 + b)) = bkF (Ai h (m + (2 + b))) (Ai h q) (koff b) (lnS b)
  | 0, _, hb => absurd hb (Nat.not_lt_zero _)
  | a + 1, ha, hb => by
    show Ai (rAi _ _ _) _ = _
    by_cases e : b = a
    · subst e
      rw [Ai_rAi, bkH_off b (fun c hc => by omega), bkH_off b (fun c hc => hq c (by omega))]
    · rw [Ai_rAi_ne (by omega)]
      exact bkH_on hq a (by omega) (by omega)
def bkN (h : Hp) (m : Nat) (v : Nat → Int32) : Nat → Hp
  | 0 => h
  | j + 1 => sFi (bkN h m v j) (29 + j) m (v j)
theorem bkN_sk (h : Hp) (m : Nat) (v : Nat → Int32) : ∀ j, (Kd (bkN h m v j) = Kd h ∧ Ln (bkN h m v j) = Ln h ∧ Fr (bkN h m v j) = Fr h ∧ Nx (bkN h m v j) = Nx h ∧ Fl (bkN h m v j) = Fl h) ∧ Ai (bkN h m v j) = Ai h ∧ Al (bkN h m v j) = Al h
  | 0 => ⟨⟨rfl, rfl, rfl, rfl, rfl⟩, rfl, rfl⟩
  | j + 1 => bkN_sk h m v j
theorem bkN_off {h : Hp} {m f : Nat} {v : Nat → Int32} : ∀ j, (∀ i, i < j → f ≠ 29 + i) → Fi (bkN h m v j) f m = Fi h f m
  | 0, _ => rfl
  | j + 1, hf => by
    show up2 (Fi (bkN h m v j)) (29 + j) m (v j) f m = _
    rw [up2_ap, if_neg (fun e => hf j (by omega) e.1)]
    exact bkN_off j (fun i hi => hf i (by omega))
theorem bkN_on {h : Hp} {m i : Nat} {v : Nat → Int32} : ∀ j, i < j → Fi (bkN h m v j) (29 + i) m = v i
  | 0, hi => absurd hi (Nat.not_lt_zero _)
  | j + 1, hi => by
    show up2 (Fi (bkN h m v j)) (29 + j) m (v j) (29 + i) m = _
    rw [up2_ap]
    by_cases e : i = j
    · rw [if_pos ⟨by omega, rfl⟩, e]
    · rw [if_neg (by omega)]; exact bkN_on j (by omega)
def broughtBack (h : Hp) (m q : Nat) : Hp := bkN (bkH h m q 13) m (fun j => Ai h q (122 + j)) 10
theorem c_allB {G : GG} {h : Hp} {m q : Nat} (hM : MSh m h) (kq : Kd h q = 101) (lq : Ln h q = 150) (hq : ∀ a, a < 13 → q ≠ m + (2 + a)) : Ct G mX5_all 1 0 0 [.ref m, .ref q, .int (nI 1)] h (Rv none (broughtBack h m q)) nX := by
  refine Ct.mk ok_mX5_all ?_
  have e9 : ∀ a, a ≤ 13 → Ai (bkH h m q a) q = Ai h q := fun a ha => bkH_off a (fun b hb => hq b (by omega))
  have sk := bkH_sk h m q
  have hMb : ∀ a, MSh m (bkH h m q a) := fun a => by unfold MSh; rw [(sk a).1.1, (sk a).1.2.1, (sk a).1.2.2.1]; exact hM
  have kqb : ∀ a, Kd (bkH h m q a) q = 101 := fun a => by rw [(sk a).1.1]; exact kq
  have lqb : ∀ a, Ln (bkH h m q a) q = 150 := fun a => by rw [(sk a).1.2.1]; exact lq
  have w371 : ∀ h9 : Hp, h9 = bkN (bkH h m q 13) m (fun j => Ai h q (122 + j)) 10 → WW G mX5_all (rmO 1 0 0) h (Rv none (broughtBack h m q)) nX 371 [.ref m, .ref q, .int (nI 1), .int (nI 122)] [] h9 0 0 := by
    intro h9 eh
    refine blk kX5_all_371 ?_
    exact ⟨trivial, rfl, eh⟩
  have w256 : ∀ h9 : Hp, h9 = bkN (bkH h m q 13) m (fun j => Ai h q (122 + j)) 8 → WW G mX5_all (rmO 1 0 0) h (Rv none (broughtBack h m q)) nX 256 [.ref m, .ref q, .int (nI 1), .int (nI 122)] [] h9 0 0 := by
    intro h9 eh
    have sk2 := bkN_sk (bkH h m q 13) m (fun j => Ai h q (122 + j)) 8
    rw [← eh] at sk2
    have hM : MSh m h9 := by unfold MSh; rw [sk2.1.1, sk2.1.2.1, sk2.1.2.2.1]; exact hMb 13
    have kq : Kd h9 q = 101 := by rw [sk2.1.1]; exact kqb 13
    have lq : Ln h9 q = 150 := by rw [sk2.1.2.1]; exact lqb 13
    have e : Ai h9 q = Ai h q := by rw [sk2.2.1]; exact e9 13 (by decide)
    refine blk kX5_all_256 ?_
    refine ⟨130, _, kq, Or.inl rfl, (nI_add 122 8), Nat.lt_of_lt_of_eq (by decide) lq.symm, ?_⟩
    refine ⟨_, hM.1, rfl, ?_⟩
    refine ⟨131, _, kq, Or.inl rfl, (nI_add 122 9), Nat.lt_of_lt_of_eq (by decide) lq.symm, ?_⟩
    refine ⟨_, hM.1, rfl, ?_⟩
    refine w371 _ ?_
    show sFi (sFi h9 37 m (Ai h9 q 130)) 38 m (Ai h9 q 131) = sFi (sFi (bkN (bkH h m q 13) m (fun j => Ai h q (122 + j)) 8) 37 m (Ai h q 130)) 38 m (Ai h q 131)
    rw [e, eh]
  have w236 : ∀ h9 : Hp, h9 = bkN (bkH h m q 13) m (fun j => Ai h q (122 + j)) 6 → WW G mX5_all (rmO 1 0 0) h (Rv none (broughtBack h m q)) nX 236 [.ref m, .ref q, .int (nI 1), .int (nI 122)] [] h9 0 0 := by
    intro h9 eh
    have sk2 := bkN_sk (bkH h m q 13) m (fun j => Ai h q (122 + j)) 6
    rw [← eh] at sk2
    have hM : MSh m h9 := by unfold MSh; rw [sk2.1.1, sk2.1.2.1, sk2.1.2.2.1]; exact hMb 13
    have kq : Kd h9 q = 101 := by rw [sk2.1.1]; exact kqb 13
    have lq : Ln h9 q = 150 := by rw [sk2.1.2.1]; exact lqb 13
    have e : Ai h9 q = Ai h q := by rw [sk2.2.1]; exact e9 13 (by decide)
    refine blk kX5_all_236 ?_
    refine ⟨128, _, kq, Or.inl rfl, (nI_add 122 6), Nat.lt_of_lt_of_eq (by decide) lq.symm, ?_⟩
    refine ⟨_, hM.1, rfl, ?_⟩
    refine ⟨129, _, kq, Or.inl rfl, (nI_add 122 7), Nat.lt_of_lt_of_eq (by decide) lq.symm, ?_⟩
    refine ⟨_, hM.1, rfl, ?_⟩
    refine w256 _ ?_
    show sFi (sFi h9 35 m (Ai h9 q 128)) 36 m (Ai h9 q 129) = sFi (sFi (bkN (bkH h m q 13) m (fun j => Ai h q (122 + j)) 6) 35 m (Ai h q 128)) 36 m (Ai h q 129)
    rw [e, eh]
  have w218 : ∀ h9 : Hp, h9 = bkN (bkH h m q 13) m (fun j => Ai h q (122 + j)) 4 → WW G mX5_all (rmO 1 0 0) h (Rv none (broughtBack h m q)) nX 218 [.ref m, .ref q, .int (nI 1), .int (nI 122)] [] h9 0 0 := by
    intro h9 eh
    have sk2 := bkN_sk (bkH h m q 13) m (fun j => Ai h q (122 + j)) 4
    rw [← eh] at sk2
    have hM : MSh m h9 := by unfold MSh; rw [sk2.1.1, sk2.1.2.1, sk2.1.2.2.1]; exact hMb 13
    have kq : Kd h9 q = 101 := by rw [sk2.1.1]; exact kqb 13
    have lq : Ln h9 q = 150 := by rw [sk2.1.2.1]; exact lqb 13
    have e : Ai h9 q = Ai h q := by rw [sk2.2.1]; exact e9 13 (by decide)
    refine blk kX5_all_218 ?_
    refine ⟨126, _, kq, Or.inl rfl, (nI_add 122 4), Nat.lt_of_lt_of_eq (by decide) lq.symm, ?_⟩
    refine ⟨_, hM.1, rfl, ?_⟩
    refine ⟨127, _, kq, Or.inl rfl, (nI_add 122 5), Nat.lt_of_lt_of_eq (by decide) lq.symm, ?_⟩
    refine ⟨_, hM.1, rfl, ?_⟩
    refine w236 _ ?_
    show sFi (sFi h9 33 m (Ai h9 q 126)) 34 m (Ai h9 q 127) = sFi (sFi (bkN (bkH h m q 13) m (fun j => Ai h q (122 + j)) 4) 33 m (Ai h q 126)) 34 m (Ai h q 127)
    rw [e, eh]
  have w200 : ∀ h9 : Hp, h9 = bkN (bkH h m q 13) m (fun j => Ai h q (122 + j)) 2 → WW G mX5_all (rmO 1 0 0) h (Rv none (broughtBack h m q)) nX 200 [.ref m, .ref q, .int (nI 1), .int (nI 122)] [] h9 0 0 := by
    intro h9 eh
    have sk2 := bkN_sk (bkH h m q 13) m (fun j => Ai h q (122 + j)) 2
    rw [← eh] at sk2
    have hM : MSh m h9 := by unfold MSh; rw [sk2.1.1, sk2.1.2.1, sk2.1.2.2.1]; exact hMb 13
    have kq : Kd h9 q = 101 := by rw [sk2.1.1]; exact kqb 13
    have lq : Ln h9 q = 150 := by rw [sk2.1.2.1]; exact lqb 13
    have e : Ai h9 q = Ai h q := by rw [sk2.2.1]; exact e9 13 (by decide)
    refine blk kX5_all_200 ?_
    refine ⟨124, _, kq, Or.inl rfl, (nI_add 122 2), Nat.lt_of_lt_of_eq (by decide) lq.symm, ?_⟩
    refine ⟨_, hM.1, rfl, ?_⟩
    refine ⟨125, _, kq, Or.inl rfl, (nI_add 122 3), Nat.lt_of_lt_of_eq (by decide) lq.symm, ?_⟩
    refine ⟨_, hM.1, rfl, ?_⟩
    refine w218 _ ?_
    show sFi (sFi h9 31 m (Ai h9 q 124)) 32 m (Ai h9 q 125) = sFi (sFi (bkN (bkH h m q 13) m (fun j => Ai h q (122 + j)) 2) 31 m (Ai h q 124)) 32 m (Ai h q 125)
    rw [e, eh]
  have w184 : ∀ h9 : Hp, h9 = bkN (bkH h m q 13) m (fun j => Ai h q (122 + j)) 0 → WW G mX5_all (rmO 1 0 0) h (Rv none (broughtBack h m q)) nX 184 [.ref m, .ref q, .int (nI 1), .int (nI 122)] [] h9 0 0 := by
    intro h9 eh
    have sk2 := bkN_sk (bkH h m q 13) m (fun j => Ai h q (122 + j)) 0
    rw [← eh] at sk2
    have hM : MSh m h9 := by unfold MSh; rw [sk2.1.1, sk2.1.2.1, sk2.1.2.2.1]; exact hMb 13
    have kq : Kd h9 q = 101 := by rw [sk2.1.1]; exact kqb 13
    have lq : Ln h9 q = 150 := by rw [sk2.1.2.1]; exact lqb 13
    have e : Ai h9 q = Ai h q := by rw [sk2.2.1]; exact e9 13 (by decide)
    refine blk kX5_all_184 ?_
    refine ⟨122, _, kq, Or.inl rfl, (rfl), Nat.lt_of_lt_of_eq (by decide) lq.symm, ?_⟩
    refine ⟨_, hM.1, rfl, ?_⟩
    refine ⟨123, _, kq, Or.inl rfl, (nI_add 122 1), Nat.lt_of_lt_of_eq (by decide) lq.symm, ?_⟩
    refine ⟨_, hM.1, rfl, ?_⟩
    refine w200 _ ?_
    show sFi (sFi h9 29 m (Ai h9 q 122)) 30 m (Ai h9 q 123) = sFi (sFi (bkN (bkH h m q 13) m (fun j => Ai h q (122 + j)) 0) 29 m (Ai h q 122)) 30 m (Ai h q 123)
    rw [e, eh]
  have w166 : ∀ h9 : Hp, h9 = bkH h m q 12 → WW G mX5_all (rmO 1 0 0) h (Rv none (broughtBack h m q)) nX 166 [.ref m, .ref q, .int (nI 1), .int (nI 112)] [] h9 0 0 := by
    intro h9 eh
    have hM : MSh m h9 := by rw [eh]; exact hMb 12
    have kq : Kd h9 q = 101 := by rw [eh]; exact kqb 12
    have lq : Ln h9 q = 150 := by rw [eh]; exact lqb 12
    refine blk kX5_all_166 ?_
    refine ⟨_, _, hM.1, rfl, hM.propped_.1, ?_⟩
    refine callv_r hM.1 (c_keepsB (p := m + 14) (q := q) (n := 10) (f := 112) hM.propped_.2.1 kq (Nat.le_of_eq hM.propped_.2.2.symm) (Nat.le_trans (by decide) (Nat.le_of_eq lq.symm)) (Nat.lt_of_le_of_lt (Nat.le_of_eq lq) (by decide)) (fun e => hq 12 (by decide) e.symm) rfl rfl) ?_
    refine br_f (by decide) ?_
    refine w184 _ ?_
    rw [eh]
    rfl
  have w138 : ∀ h9 : Hp, h9 = bkH h m q 10 → WW G mX5_all (rmO 1 0 0) h (Rv none (broughtBack h m q)) nX 138 [.ref m, .ref q, .int (nI 1), .int (nI 92)] [] h9 0 0 := by
    intro h9 eh
    have hM : MSh m h9 := by rw [eh]; exact hMb 10
    have kq : Kd h9 q = 101 := by rw [eh]; exact kqb 10
    have lq : Ln h9 q = 150 := by rw [eh]; exact lqb 10
    refine blk kX5_all_138 ?_
    refine ⟨_, _, hM.1, rfl, hM.next_.1, ?_⟩
    refine callv_r hM.1 (c_keepsB (p := m + 12) (q := q) (n := 10) (f := 92) hM.next_.2.1 kq (Nat.le_of_eq hM.next_.2.2.symm) (Nat.le_trans (by decide) (Nat.le_of_eq lq.symm)) (Nat.lt_of_le_of_lt (Nat.le_of_eq lq) (by decide)) (fun e => hq 10 (by decide) e.symm) rfl rfl) ?_
    refine ⟨_, _, hM.1, rfl, hM.steps_.1, ?_⟩
    refine callv_r hM.1 (c_keepsB (p := m + 13) (q := q) (n := 10) (f := 102) hM.steps_.2.1 kq (Nat.le_of_eq hM.steps_.2.2.symm) (Nat.le_trans (by decide) (Nat.le_of_eq lq.symm)) (Nat.lt_of_le_of_lt (Nat.le_of_eq lq) (by decide)) (fun e => hq 11 (by decide) e.symm) rfl rfl) ?_
    refine w166 _ ?_
    rw [eh]
    rfl
  have w110 : ∀ h9 : Hp, h9 = bkH h m q 8 → WW G mX5_all (rmO 1 0 0) h (Rv none (broughtBack h m q)) nX 110 [.ref m, .ref q, .int (nI 1), .int (nI 72)] [] h9 0 0 := by
    intro h9 eh
    have hM : MSh m h9 := by rw [eh]; exact hMb 8
    have kq : Kd h9 q = 101 := by rw [eh]; exact kqb 8
    have lq : Ln h9 q = 150 := by rw [eh]; exact lqb 8
    refine blk kX5_all_110 ?_
    refine ⟨_, _, hM.1, rfl, hM.cost_.1, ?_⟩
    refine callv_r hM.1 (c_keepsB (p := m + 10) (q := q) (n := 10) (f := 72) hM.cost_.2.1 kq (Nat.le_of_eq hM.cost_.2.2.symm) (Nat.le_trans (by decide) (Nat.le_of_eq lq.symm)) (Nat.lt_of_le_of_lt (Nat.le_of_eq lq) (by decide)) (fun e => hq 8 (by decide) e.symm) rfl rfl) ?_
    refine ⟨_, _, hM.1, rfl, hM.front_.1, ?_⟩
    refine callv_r hM.1 (c_keepsB (p := m + 11) (q := q) (n := 10) (f := 82) hM.front_.2.1 kq (Nat.le_of_eq hM.front_.2.2.symm) (Nat.le_trans (by decide) (Nat.le_of_eq lq.symm)) (Nat.lt_of_le_of_lt (Nat.le_of_eq lq) (by decide)) (fun e => hq 9 (by decide) e.symm) rfl rfl) ?_
    refine w138 _ ?_
    rw [eh]
    rfl
  have w82 : ∀ h9 : Hp, h9 = bkH h m q 6 → WW G mX5_all (rmO 1 0 0) h (Rv none (broughtBack h m q)) nX 82 [.ref m, .ref q, .int (nI 1), .int (nI 52)] [] h9 0 0 := by
    intro h9 eh
    have hM : MSh m h9 := by rw [eh]; exact hMb 6
    have kq : Kd h9 q = 101 := by rw [eh]; exact kqb 6
    have lq : Ln h9 q = 150 := by rw [eh]; exact lqb 6
    refine blk kX5_all_82 ?_
    refine ⟨_, _, hM.1, rfl, hM.day_.1, ?_⟩
    refine callv_r hM.1 (c_keepsB (p := m + 8) (q := q) (n := 10) (f := 52) hM.day_.2.1 kq (Nat.le_of_eq hM.day_.2.2.symm) (Nat.le_trans (by decide) (Nat.le_of_eq lq.symm)) (Nat.lt_of_le_of_lt (Nat.le_of_eq lq) (by decide)) (fun e => hq 6 (by decide) e.symm) rfl rfl) ?_
    refine ⟨_, _, hM.1, rfl, hM.night_.1, ?_⟩
    refine callv_r hM.1 (c_keepsB (p := m + 9) (q := q) (n := 10) (f := 62) hM.night_.2.1 kq (Nat.le_of_eq hM.night_.2.2.symm) (Nat.le_trans (by decide) (Nat.le_of_eq lq.symm)) (Nat.lt_of_le_of_lt (Nat.le_of_eq lq) (by decide)) (fun e => hq 7 (by decide) e.symm) rfl rfl) ?_
    refine w110 _ ?_
    rw [eh]
    rfl
  have w54 : ∀ h9 : Hp, h9 = bkH h m q 4 → WW G mX5_all (rmO 1 0 0) h (Rv none (broughtBack h m q)) nX 54 [.ref m, .ref q, .int (nI 1), .int (nI 32)] [] h9 0 0 := by
    intro h9 eh
    have hM : MSh m h9 := by rw [eh]; exact hMb 4
    have kq : Kd h9 q = 101 := by rw [eh]; exact kqb 4
    have lq : Ln h9 q = 150 := by rw [eh]; exact lqb 4
    refine blk kX5_all_54 ?_
    refine ⟨_, _, hM.1, rfl, hM.corner_.1, ?_⟩
    refine callv_r hM.1 (c_keepsB (p := m + 6) (q := q) (n := 10) (f := 32) hM.corner_.2.1 kq (Nat.le_of_eq hM.corner_.2.2.symm) (Nat.le_trans (by decide) (Nat.le_of_eq lq.symm)) (Nat.lt_of_le_of_lt (Nat.le_of_eq lq) (by decide)) (fun e => hq 4 (by decide) e.symm) rfl rfl) ?_
    refine ⟨_, _, hM.1, rfl, hM.weak_.1, ?_⟩
    refine callv_r hM.1 (c_keepsB (p := m + 7) (q := q) (n := 10) (f := 42) hM.weak_.2.1 kq (Nat.le_of_eq hM.weak_.2.2.symm) (Nat.le_trans (by decide) (Nat.le_of_eq lq.symm)) (Nat.lt_of_le_of_lt (Nat.le_of_eq lq) (by decide)) (fun e => hq 5 (by decide) e.symm) rfl rfl) ?_
    refine w82 _ ?_
    rw [eh]
    rfl
  have w28 : ∀ h9 : Hp, h9 = bkH h m q 2 → WW G mX5_all (rmO 1 0 0) h (Rv none (broughtBack h m q)) nX 28 [.ref m, .ref q, .int (nI 1), .int (nI 24)] [] h9 0 0 := by
    intro h9 eh
    have hM : MSh m h9 := by rw [eh]; exact hMb 2
    have kq : Kd h9 q = 101 := by rw [eh]; exact kqb 2
    have lq : Ln h9 q = 150 := by rw [eh]; exact lqb 2
    refine blk kX5_all_28 ?_
    refine ⟨_, _, hM.1, rfl, hM.chance_.1, ?_⟩
    refine callv_r hM.1 (c_keepsB (p := m + 4) (q := q) (n := 4) (f := 24) hM.chance_.2.1 kq (Nat.le_of_eq hM.chance_.2.2.symm) (Nat.le_trans (by decide) (Nat.le_of_eq lq.symm)) (Nat.lt_of_le_of_lt (Nat.le_of_eq lq) (by decide)) (fun e => hq 2 (by decide) e.symm) rfl rfl) ?_
    refine ⟨_, _, hM.1, rfl, hM.hard_.1, ?_⟩
    refine callv_r hM.1 (c_keepsB (p := m + 5) (q := q) (n := 4) (f := 28) hM.hard_.2.1 kq (Nat.le_of_eq hM.hard_.2.2.symm) (Nat.le_trans (by decide) (Nat.le_of_eq lq.symm)) (Nat.lt_of_le_of_lt (Nat.le_of_eq lq) (by decide)) (fun e => hq 3 (by decide) e.symm) rfl rfl) ?_
    refine w54 _ ?_
    rw [eh]
    rfl
  have w0 : ∀ h9 : Hp, h9 = bkH h m q 0 → WW G mX5_all (rmO 1 0 0) h (Rv none (broughtBack h m q)) nX 0 (ent [.ref m, .ref q, .int (nI 1)] (Ml mX5_all)) [] h9 0 0 := by
    intro h9 eh
    have hM : MSh m h9 := by rw [eh]; exact hMb 0
    have kq : Kd h9 q = 101 := by rw [eh]; exact kqb 0
    have lq : Ln h9 q = 150 := by rw [eh]; exact lqb 0
    refine blk kX5_all_0 ?_
    refine ⟨_, _, hM.1, rfl, hM.sideA_.1, ?_⟩
    refine callv_r hM.1 (c_keepsB (p := m + 2) (q := q) (n := 12) (f := 0) hM.sideA_.2.1 kq (Nat.le_of_eq hM.sideA_.2.2.symm) (Nat.le_trans (by decide) (Nat.le_of_eq lq.symm)) (Nat.lt_of_le_of_lt (Nat.le_of_eq lq) (by decide)) (fun e => hq 0 (by decide) e.symm) rfl rfl) ?_
    refine ⟨_, _, hM.1, rfl, hM.sideB_.1, ?_⟩
    refine callv_r hM.1 (c_keepsB (p := m + 3) (q := q) (n := 12) (f := 12) hM.sideB_.2.1 kq (Nat.le_of_eq hM.sideB_.2.2.symm) (Nat.le_trans (by decide) (Nat.le_of_eq lq.symm)) (Nat.lt_of_le_of_lt (Nat.le_of_eq lq) (by decide)) (fun e => hq 1 (by decide) e.symm) rfl rfl) ?_
    refine w28 _ ?_
    rw [eh]
    rfl
  exact w0 h rfl
