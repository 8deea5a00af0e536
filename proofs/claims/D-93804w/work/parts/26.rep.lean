set_option maxRecDepth 100000
/-! the model's state as a whole: town, refusals, shelves (0 held 1 sort 2 size 3 kind 4 by), cells, numbers (0 fault 1 ran 2 kept), trace, the town kept -/
abbrev Sg : Type := Tw × (Nat → Int32) × (Nat → Nat → Int32) × (Nat → Int64) × (Nat → Int32) × (Nat → Int32) × Tw
def gT (σ : Sg) : Tw := σ.1
def gR (σ : Sg) : Nat → Int32 := σ.2.1
def gS (σ : Sg) : Nat → Nat → Int32 := σ.2.2.1
def gC (σ : Sg) : Nat → Int64 := σ.2.2.2.1
def gN (σ : Sg) : Nat → Int32 := σ.2.2.2.2.1
def gX (σ : Sg) : Nat → Int32 := σ.2.2.2.2.2.1
def gK (σ : Sg) : Tw := σ.2.2.2.2.2.2
def koff (a : Nat) : Nat := match a with
  | 0 => 0
  | 1 => 12
  | 2 => 24
  | 3 => 28
  | a + 4 => 32 + 10 * a
/-- a town kept in a row of ints -/
def KTw (g : Nat → Int32) (T : Tw) (s n k : Nat) : Prop := TOK T s n k ∧ (∀ j, j < 10 → g (122 + j) = T.1 j) ∧ ∀ a i, a < 13 → i < cn s n k a → g (koff a + i) = T.2 a i
def SOK (S : Nat → Nat → Int32) (i : Nat) : Prop := S 0 i = 0 ∨ (S 0 i = nI 1 ∧ Rg 0 3 (S 1 i) ∧ Rg 0 120 (S 2 i)) ∨ (S 0 i = nI 2 ∧ Rg 0 6 (S 3 i) ∧ (S 3 i = nI 6 → Rg 0 120 (S 2 i)))
def wordsL : List Nat := [115, 116, 114, 101, 101, 116, 32, 0, 104, 111, 117, 115, 101, 32, 0, 115, 104, 97, 107, 101, 32, 0, 99, 111, 105, 110, 32, 0, 115, 104, 117, 116, 32, 0, 100, 97, 121, 112, 97, 114, 116, 32, 0, 32, 102, 114, 111, 110, 116, 32, 0, 32, 110, 101, 120, 116, 32, 0]
def MRep (m : Nat) (h : Hp) (σ : Sg) : Prop := MSh m h ∧ (∃ s n k, MTw m h (gT σ) s n k) ∧ (∀ i, i < 8 → Ai h (m + 1) i = gR σ i) ∧ (∀ a i, a < 5 → i < 8 → Ai h (m + (15 + a)) i = gS σ a i) ∧ (∀ i, i < 960 → Al h (m + 20) i = gC σ i) ∧ (Fi h 39 m = gN σ 0 ∧ Fi h 83 m = gN σ 1 ∧ Fi h 84 m = gN σ 2) ∧ (∀ i, i < 20 → Ai h (m + 32) i = gX σ i) ∧ (gN σ 2 = 0 ∨ (gN σ 2 = nI 1 ∧ ∃ s n k, KTw (Ai h (m + 24)) (gK σ) s n k)) ∧ (∀ i, i < 58 → Ai h (m + 22) i = nI (wordsL.getD i 0)) ∧ ∀ i, i < 8 → SOK (gS σ) i
theorem MRep.sh {m : Nat} {h : Hp} {σ : Sg} (r : MRep m h σ) : MSh m h := r.1
theorem MRep.tw {m : Nat} {h : Hp} {σ : Sg} (r : MRep m h σ) : ∃ s n k, MTw m h (gT σ) s n k := r.2.1
/-! what is scratch -/
def scA (o : Nat) : Bool := o == 21 || o == 23 || o == 25 || o == 26 || o == 27 || o == 28 || o == 29 || o == 30 || o == 31
def scF (f : Nat) : Bool := f == 62 || f == 63 || f == 64 || f == 65 || f == 66 || f == 73 || f == 75 || f == 76 || f == 77 || f == 81
def MK (m : Nat) (h h' : Hp) : Prop := (Kd h' = Kd h ∧ Ln h' = Ln h ∧ Fr h' = Fr h ∧ Nx h' = Nx h) ∧ (∀ f, scF f = false → Fi h' f m = Fi h f m) ∧ (∀ o, scA o = false → Ai h' (m + o) = Ai h (m + o)) ∧ ∀ o, scA o = false → Al h' (m + o) = Al h (m + o)
theorem MK.rf (m : Nat) (h : Hp) : MK m h h := ⟨⟨rfl, rfl, rfl, rfl⟩, fun _ _ => rfl, fun _ _ => rfl, fun _ _ => rfl⟩
theorem MK.tr {m : Nat} {a b c : Hp} (x : MK m a b) (y : MK m b c) : MK m a c :=
  ⟨⟨y.1.1.trans x.1.1, y.1.2.1.trans x.1.2.1, y.1.2.2.1.trans x.1.2.2.1, y.1.2.2.2.trans x.1.2.2.2⟩, fun f hf => (y.2.1 f hf).trans (x.2.1 f hf), fun o ho => (y.2.2.1 o ho).trans (x.2.2.1 o ho), fun o ho => (y.2.2.2 o ho).trans (x.2.2.2 o ho)⟩
theorem MK.sAi {m o i : Nat} {h : Hp} {v : Int32} (ho : scA o = true) : MK m h (sAi h (m + o) i v) := by
  refine ⟨⟨rfl, rfl, rfl, rfl⟩, fun _ _ => rfl, fun o' h' => ?_, fun _ _ => rfl⟩
  exact Ai_sAi_ne (fun e => by have : o' = o := by omega
                               rw [this, ho] at h'; cases h')
theorem MK.rAi {m o : Nat} {h : Hp} {g : Nat → Int32} (ho : scA o = true) : MK m h (rAi h (m + o) g) := by
  refine ⟨⟨rfl, rfl, rfl, rfl⟩, fun _ _ => rfl, fun o' h' => ?_, fun _ _ => rfl⟩
  exact Ai_rAi_ne (fun e => by have : o' = o := by omega
                               rw [this, ho] at h'; cases h')
theorem MK.rAl {m o : Nat} {h : Hp} {g : Nat → Int64} (ho : scA o = true) : MK m h (rAl h (m + o) g) := by
  refine ⟨⟨rfl, rfl, rfl, rfl⟩, fun _ _ => rfl, fun _ _ => rfl, fun o' h' => ?_⟩
  exact Al_rAl_ne (fun e => by have : o' = o := by omega
                               rw [this, ho] at h'; cases h')
theorem MK.sFi {m f : Nat} {h : Hp} {v : Int32} (hf : scF f = true) : MK m h (sFi h f m v) := by
  refine ⟨⟨rfl, rfl, rfl, rfl⟩, fun f' h' => ?_, fun _ _ => rfl, fun _ _ => rfl⟩
  show up2 (Fi h) f m v f' m = _
  rw [up2_ap, if_neg (fun e => by rw [e.1, hf] at h'; cases h')]
theorem MK.sFl {m f : Nat} {h : Hp} {v : Int64} : MK m h (sFl h f m v) := ⟨⟨rfl, rfl, rfl, rfl⟩, fun _ _ => rfl, fun _ _ => rfl, fun _ _ => rfl⟩
theorem MK.MSh {m : Nat} {h h' : Hp} (x : MK m h h') (s : MSh m h) : MSh m h' := by
  unfold CStrengthenFirstLaw_law_r1973_a72b69.MSh
  rw [x.1.1, x.1.2.1, x.1.2.2.1]
  exact s
theorem scF_town {j : Nat} (hj : j < 10) : scF (29 + j) = false := by
  rcases (by omega : j = 0 ∨ j = 1 ∨ j = 2 ∨ j = 3 ∨ j = 4 ∨ j = 5 ∨ j = 6 ∨ j = 7 ∨ j = 8 ∨ j = 9) with rfl | rfl | rfl | rfl | rfl | rfl | rfl | rfl | rfl | rfl <;> rfl
theorem scA_lt {o : Nat} (ho : o < 21) : scA o = false := by
  simp [scA]
  omega
theorem MK.MTw {m : Nat} {h h' : Hp} {T : Tw} {s n k : Nat} (x : MK m h h') (t : MTw m h T s n k) : MTw m h' T s n k :=
  ⟨t.1, fun j hj => (x.2.1 _ (scF_town hj)).trans (t.2.1 j hj), fun a i ha hi => by rw [x.2.2.1 _ (scA_lt (by omega))]; exact t.2.2 a i ha hi⟩
theorem MRep.mk {m : Nat} {h h' : Hp} {σ : Sg} (r : MRep m h σ) (x : MK m h h') : MRep m h' σ := by
  obtain ⟨r1, ⟨s, n, k, r2⟩, r3, r4, r5, r6, r7, r8, r9, r10⟩ := r
  refine ⟨x.MSh r1, ⟨s, n, k, x.MTw r2⟩, fun i hi => ?_, fun a i ha hi => ?_, fun i hi => ?_, ?_, fun i hi => ?_, ?_, fun i hi => ?_, r10⟩
  · rw [x.2.2.1 1 rfl]; exact r3 i hi
  · rw [x.2.2.1 _ (scA_lt (by omega))]; exact r4 a i ha hi
  · rw [x.2.2.2 20 rfl]; exact r5 i hi
  · rw [x.2.1 39 rfl, x.2.1 83 rfl, x.2.1 84 rfl]; exact r6
  · rw [x.2.2.1 32 rfl]; exact r7 i hi
  · rw [x.2.2.1 24 rfl]; exact r8
  · rw [x.2.2.1 22 rfl]; exact r9 i hi
/-- a refusal told -/
def rfs (σ : Sg) (k : Nat) : Sg := (σ.1, up1 σ.2.1 k (σ.2.1 k + nI 1), σ.2.2)
theorem MTw.off {m q i : Nat} {h : Hp} {T : Tw} {s n k : Nat} {v : Int32} (t : MTw m h T s n k) (hq : ∀ a, a < 13 → q ≠ m + (2 + a)) : MTw m (sAi h q i v) T s n k :=
  ⟨t.1, t.2.1, fun a j ha hj => by rw [Ai_sAi_ne (fun e => hq a ha e.symm)]; exact t.2.2 a j ha hj⟩
theorem MRep.no {m k : Nat} {h : Hp} {σ : Sg} (r : MRep m h σ) (hk : k < 8) : MRep m (sAi h (m + 1) k (Ai h (m + 1) k + nI 1)) (rfs σ k) := by
  obtain ⟨r1, ⟨s, n, k', r2⟩, r3, r4, r5, r6, r7, r8, r9, r10⟩ := r
  refine ⟨r1, ⟨s, n, k', r2.off (fun a ha => by omega)⟩, fun i hi => ?_, fun a i ha hi => ?_, r5, r6, fun i hi => ?_, ?_, fun i hi => ?_, r10⟩
  · show up2 (Ai h) (m + 1) k _ (m + 1) i = up1 (gR σ) k _ i
    rw [up2_ap, up1_ap]
    by_cases e : i = k
    · subst e
      rw [if_pos ⟨rfl, rfl⟩, if_pos rfl, r3 i hi]
      rfl
    · rw [if_neg (fun q => e q.2), if_neg e, r3 i hi]
  · rw [Ai_sAi_ne (by omega)]; exact r4 a i ha hi
  · rw [Ai_sAi_ne (by omega)]; exact r7 i hi
  · rw [Ai_sAi_ne (by omega)]; exact r8
  · rw [Ai_sAi_ne (by omega)]; exact r9 i hi
/-! answers yes or no -/
def bI (c : Prop) [Decidable c] : Int32 := if c then nI 1 else nI 0
theorem bI_t {c : Prop} [Decidable c] (h : c) : bI c = nI 1 := if_pos h
theorem bI_f {c : Prop} [Decidable c] (h : ¬ c) : bI c = nI 0 := if_neg h
theorem bI_ne {c : Prop} [Decidable c] (h : ¬ bI c = 0) : c := by
  by_cases g : c
  · exact g
  · exact absurd (bI_f g) h
theorem bI_eq {c : Prop} [Decidable c] (h : bI c = 0) : ¬ c := fun g => by
  rw [bI_t g] at h
  exact absurd h (by decide)
theorem bI_01 {c : Prop} [Decidable c] : bI c = 0 ∨ bI c = 1 := by
  by_cases g : c
  · exact Or.inr (bI_t g)
  · exact Or.inl (bI_f g)
abbrev inN (x : Int32) (n : Nat) : Prop := 0 ≤ x ∧ x < nI n
theorem inN_ix {x : Int32} {n : Nat} (h : inN x n) (hn : n < 2 ^ 31) : x = nI x.toNatClampNeg ∧ x.toNatClampNeg < n := by
  obtain ⟨h1, h2⟩ := h
  rw [Int32.le_iff_toInt_le, Int32.toInt_zero] at h1
  rw [Int32.lt_iff_toInt_lt, nI_toInt hn] at h2
  exact Rg.ix (hi := (n : Int) - 1) ⟨h1, by omega⟩ (by omega)
