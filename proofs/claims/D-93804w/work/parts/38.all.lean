set_option maxRecDepth 100000
/-! what may change -/
def FQ (m : Nat) (A L F : List Nat) (h h' : Hp) : Prop := (Kd h' = Kd h ∧ Ln h' = Ln h ∧ Fr h' = Fr h ∧ Nx h' = Nx h ∧ Fl h' = Fl h) ∧ (∀ f, f ∉ F → Fi h' f m = Fi h f m) ∧ (∀ o, o ∉ A → Ai h' (m + o) = Ai h (m + o)) ∧ ∀ o, o ∉ L → Al h' (m + o) = Al h (m + o)
theorem FQ.rf {m : Nat} {A L F : List Nat} (h : Hp) : FQ m A L F h h := ⟨⟨rfl, rfl, rfl, rfl, rfl⟩, fun _ _ => rfl, fun _ _ => rfl, fun _ _ => rfl⟩
theorem FQ.tr {m : Nat} {A L F : List Nat} {a b c : Hp} (x : FQ m A L F a b) (y : FQ m A L F b c) : FQ m A L F a c :=
  ⟨⟨y.1.1.trans x.1.1, y.1.2.1.trans x.1.2.1, y.1.2.2.1.trans x.1.2.2.1, y.1.2.2.2.1.trans x.1.2.2.2.1, y.1.2.2.2.2.trans x.1.2.2.2.2⟩, fun f hf => (y.2.1 f hf).trans (x.2.1 f hf), fun o ho => (y.2.2.1 o ho).trans (x.2.2.1 o ho), fun o ho => (y.2.2.2 o ho).trans (x.2.2.2 o ho)⟩
theorem FQ.up {m : Nat} {A L F A' L' F' : List Nat} {a b : Hp} (x : FQ m A L F a b) (hA : A.all (fun o => A'.contains o) = true) (hL : L.all (fun o => L'.contains o) = true) (hF : F.all (fun o => F'.contains o) = true) : FQ m A' L' F' a b := by
  have g : ∀ {X Y : List Nat}, X.all (fun o => Y.contains o) = true → ∀ o, o ∉ Y → o ∉ X := fun h o ho hx => ho (by simpa using List.all_eq_true.mp h o hx)
  exact ⟨x.1, fun f hf => x.2.1 f (g hF f hf), fun o ho => x.2.2.1 o (g hA o ho), fun o ho => x.2.2.2 o (g hL o ho)⟩
theorem FQ.mk {m : Nat} {A L F : List Nat} {a b : Hp} (x : FQ m A L F a b) (hA : A.all scA = true) (hL : L.all scA = true) (hF : F.all scF = true) : MK m a b := by
  have g : ∀ {X : List Nat} {p : Nat → Bool}, X.all p = true → ∀ o, p o = false → o ∉ X := fun h o ho hx => by
    have := List.all_eq_true.mp h o hx
    rw [ho] at this; cases this
  exact ⟨⟨x.1.1, x.1.2.1, x.1.2.2.1, x.1.2.2.2.1⟩, fun f hf => x.2.1 f (g hF f hf), fun o ho => x.2.2.1 o (g hA o ho), fun o ho => x.2.2.2 o (g hL o ho)⟩
theorem FQ.rAi {m o : Nat} {A L F : List Nat} {h : Hp} {g : Nat → Int32} (ho : o ∈ A) : FQ m A L F h (rAi h (m + o) g) :=
  ⟨⟨rfl, rfl, rfl, rfl, rfl⟩, fun _ _ => rfl, fun o' h' => Ai_rAi_ne (fun e => h' ((Nat.add_left_cancel e).symm ▸ ho)), fun _ _ => rfl⟩
theorem FQ.sAi {m o i : Nat} {A L F : List Nat} {h : Hp} {v : Int32} (ho : o ∈ A) : FQ m A L F h (sAi h (m + o) i v) := by rw [sAi_r]; exact FQ.rAi ho
theorem FQ.rAl {m o : Nat} {A L F : List Nat} {h : Hp} {g : Nat → Int64} (ho : o ∈ L) : FQ m A L F h (rAl h (m + o) g) :=
  ⟨⟨rfl, rfl, rfl, rfl, rfl⟩, fun _ _ => rfl, fun _ _ => rfl, fun o' h' => Al_rAl_ne (fun e => h' ((Nat.add_left_cancel e).symm ▸ ho))⟩
theorem FQ.sFi {m f : Nat} {A L F : List Nat} {h : Hp} {v : Int32} (hf : f ∈ F) : FQ m A L F h (sFi h f m v) :=
  ⟨⟨rfl, rfl, rfl, rfl, rfl⟩, fun f' h' => by show up2 (Fi h) f m v f' m = _; rw [up2_ap, if_neg (fun e : f' = f ∧ m = m => h' (e.1.symm ▸ hf))], fun _ _ => rfl, fun _ _ => rfl⟩
theorem FQ.MSh {m : Nat} {A L F : List Nat} {h h' : Hp} (x : FQ m A L F h h') (s : MSh m h) : MSh m h' := by
  unfold CStrengthenFirstLaw_law_r1973_a72b69.MSh
  rw [x.1.1, x.1.2.1, x.1.2.2.1]
  exact s
theorem FQ.MTw {m : Nat} {A L F : List Nat} {h h' : Hp} {T : Tw} {s n k : Nat} (x : FQ m A L F h h') (t : MTw m h T s n k) (hA : A.all (fun o => !(decide (2 ≤ o) && decide (o ≤ 14))) = true) (hF : F.all (fun f => !(decide (29 ≤ f) && decide (f ≤ 38))) = true) : MTw m h' T s n k :=
  ⟨t.1, fun j hj => (x.2.1 _ (fun q => by have := List.all_eq_true.mp hF _ q; simp at this; omega)).trans (t.2.1 j hj), fun a i ha hi => by rw [x.2.2.1 _ (fun q => by have := List.all_eq_true.mp hA _ q; simp at this; omega)]; exact t.2.2 a i ha hi⟩
/-! keeping and bringing back -/
def cpF (g v : Nat → Int32) (f n : Nat) : Nat → Int32 := fun j => if f ≤ j ∧ j < f + n then v (j - f) else g j
def bkF (g v : Nat → Int32) (f n : Nat) : Nat → Int32 := fun j => if j < n then v (f + j) else g j
theorem cpF_0 {g v : Nat → Int32} {f : Nat} : cpF g v f 0 = g := by funext j; unfold cpF; rw [if_neg (by omega)]
theorem bkF_0 {g v : Nat → Int32} {f : Nat} : bkF g v f 0 = g := by funext j; unfold bkF; rw [if_neg (by omega)]
theorem cpF_s {g v : Nat → Int32} {f i : Nat} : up1 (cpF g v f i) (f + i) (v i) = cpF g v f (i + 1) := by
  funext j
  rw [up1_ap]
  unfold cpF
  by_cases e : j = f + i
  · rw [if_pos e, if_pos (by omega), show j - f = i by omega]
  · rw [if_neg e]
    by_cases e2 : f ≤ j ∧ j < f + i
    · rw [if_pos e2, if_pos (by omega)]
    · rw [if_neg e2, if_neg (by omega)]
theorem bkF_s {g v : Nat → Int32} {f i : Nat} : up1 (bkF g v f i) i (v (f + i)) = bkF g v f (i + 1) := by
  funext j
  rw [up1_ap]
  unfold bkF
  by_cases e : j = i
  · rw [if_pos e, if_pos (by omega), e]
  · rw [if_neg e]
    by_cases e2 : j < i
    · rw [if_pos e2, if_pos (by omega)]
    · rw [if_neg e2, if_neg (by omega)]
theorem c_keepsI {G : GG} {h : Hp} {m p q n f : Nat} {g : Nat → Int32} {x y : Int32} (kp : Kd h p = 101) (kq : Kd h q = 101) (lp : n ≤ Ln h p) (lq : f + n ≤ Ln h q) (l9 : Ln h q < 1000) (hpq : p ≠ q) (hx : x = nI n) (hy : y = nI f) : Ct G mX5_keeps 0 0 0 [.ref m, .ref p, .int x, .ref q, .int y, .int (nI 0)] (rAi h q g) (Rv (some (.int (nI (f + n)))) (rAi h q (cpF g (Ai h p) f n))) nX := by
  refine Ct.mk ok_mX5_keeps ?_
  refine blk kX5_keeps_0 ?_
  have loop : ∀ (w i : Nat) (z : Int32), i + w = n → z = nI i → WW G mX5_keeps (rmO 0 0 0) (rAi h q g) (Rv (some (.int (nI (f + n)))) (rAi h q (cpF g (Ai h p) f n))) nX 3 [.ref m, .ref p, .int x, .ref q, .int y, .int (nI 0), .int z] [] (rAi h q (cpF g (Ai h p) f i)) 0 0 := by
    intro w
    induction w with
    | zero =>
      intro i z hq hz
      have hi : n = i := by omega
      subst hi
      refine blk kX5_keeps_3 ?_
      refine br_t (by rw [hz, hx]; exact Int32.le_refl _) ?_
      refine blk kX5_keeps_45 ?_
      exact ⟨trivial, by dsimp only; rw [hy, hx, nI_add], rfl⟩
    | succ w ih =>
      intro i z hq hz
      have hi : i < n := by omega
      refine blk kX5_keeps_3 ?_
      refine br_f (by rw [hz, hx]; exact nI_ge hi (by omega)) ?_
      refine blk kX5_keeps_9 ?_
      refine br_t rfl ?_
      refine blk kX5_keeps_28 ?_
      refine ⟨i, _, kp, Or.inl rfl, hz, Nat.lt_of_lt_of_le hi lp, ?_⟩
      refine ⟨f + i, kq, (by rw [hy, hz]; exact nI_add f i), Nat.lt_of_lt_of_le (by omega : f + i < f + n) lq, ?_⟩
      refine blk kX5_keeps_39 ?_
      rw [sAi_rAi, Ai_rAi_ne hpq, cpF_s]
      exact ih (i + 1) _ (by omega) (by rw [hz]; exact nI_1 i)
  have := loop n 0 _ (by omega) rfl
  rw [cpF_0] at this
  exact this
theorem c_keepsB {G : GG} {h : Hp} {m p q n f : Nat} {x y : Int32} (kp : Kd h p = 101) (kq : Kd h q = 101) (lp : n ≤ Ln h p) (lq : f + n ≤ Ln h q) (l9 : Ln h q < 1000) (hpq : p ≠ q) (hx : x = nI n) (hy : y = nI f) : Ct G mX5_keeps 0 0 0 [.ref m, .ref p, .int x, .ref q, .int y, .int (nI 1)] h (Rv (some (.int (nI (f + n)))) (rAi h p (bkF (Ai h p) (Ai h q) f n))) nX := by
  refine Ct.mk ok_mX5_keeps ?_
  refine blk kX5_keeps_0 ?_
  have loop : ∀ (w i : Nat) (z : Int32), i + w = n → z = nI i → WW G mX5_keeps (rmO 0 0 0) h (Rv (some (.int (nI (f + n)))) (rAi h p (bkF (Ai h p) (Ai h q) f n))) nX 3 [.ref m, .ref p, .int x, .ref q, .int y, .int (nI 1), .int z] [] (rAi h p (bkF (Ai h p) (Ai h q) f i)) 0 0 := by
    intro w
    induction w with
    | zero =>
      intro i z hq hz
      have hi : n = i := by omega
      subst hi
      refine blk kX5_keeps_3 ?_
      refine br_t (by rw [hz, hx]; exact Int32.le_refl _) ?_
      refine blk kX5_keeps_45 ?_
      exact ⟨trivial, by dsimp only; rw [hy, hx, nI_add], rfl⟩
    | succ w ih =>
      intro i z hq hz
      have hi : i < n := by omega
      refine blk kX5_keeps_3 ?_
      refine br_f (by rw [hz, hx]; exact nI_ge hi (by omega)) ?_
      refine blk kX5_keeps_9 ?_
      refine br_f (by decide) ?_
      refine blk kX5_keeps_14 ?_
      refine ⟨f + i, _, kq, Or.inl rfl, (by rw [hy, hz]; exact nI_add f i), Nat.lt_of_lt_of_le (by omega : f + i < f + n) lq, ?_⟩
      refine ⟨i, kp, hz, Nat.lt_of_lt_of_le hi lp, ?_⟩
      refine blk kX5_keeps_39 ?_
      rw [sAi_rAi, Ai_rAi_ne hpq.symm, bkF_s]
      exact ih (i + 1) _ (by omega) (by rw [hz]; exact nI_1 i)
  have := loop n 0 _ (by omega) rfl
  rw [bkF_0, rAi_self] at this
  exact this
