set_option maxRecDepth 100000
/-! the small heap: kinds, lengths, fields of ints, longs, references, arrays of ints, longs, references, the next address -/
abbrev Hp : Type := (Nat → Nat) × (Nat → Nat) × (Nat → Nat → Int32) × (Nat → Nat → Int64) × (Nat → Nat → Option Nat) × (Nat → Nat → Int32) × (Nat → Nat → Int64) × (Nat → Nat → Option Nat) × Nat
def Kd (h : Hp) : Nat → Nat := h.1
def Ln (h : Hp) : Nat → Nat := h.2.1
def Fi (h : Hp) : Nat → Nat → Int32 := h.2.2.1
def Fl (h : Hp) : Nat → Nat → Int64 := h.2.2.2.1
def Fr (h : Hp) : Nat → Nat → Option Nat := h.2.2.2.2.1
def Ai (h : Hp) : Nat → Nat → Int32 := h.2.2.2.2.2.1
def Al (h : Hp) : Nat → Nat → Int64 := h.2.2.2.2.2.2.1
def Ar (h : Hp) : Nat → Nat → Option Nat := h.2.2.2.2.2.2.2.1
def Nx (h : Hp) : Nat := h.2.2.2.2.2.2.2.2
def up1 {α : Type} (f : Nat → α) (k : Nat) (v : α) : Nat → α := fun b => if b = k then v else f b
def up2 {α : Type} (f : Nat → Nat → α) (i k : Nat) (v : α) : Nat → Nat → α := fun a b => if a = i ∧ b = k then v else f a b
def zr1 {α : Type} (f : Nat → Nat → α) (k : Nat) (v : α) : Nat → Nat → α := fun a b => if b = k then v else f a b
def zr2 {α : Type} (f : Nat → Nat → α) (k : Nat) (v : α) : Nat → Nat → α := fun a b => if a = k then v else f a b
def sFi (h : Hp) (f a : Nat) (v : Int32) : Hp := (Kd h, Ln h, up2 (Fi h) f a v, Fl h, Fr h, Ai h, Al h, Ar h, Nx h)
def sFl (h : Hp) (f a : Nat) (v : Int64) : Hp := (Kd h, Ln h, Fi h, up2 (Fl h) f a v, Fr h, Ai h, Al h, Ar h, Nx h)
def sFr (h : Hp) (f a : Nat) (v : Option Nat) : Hp := (Kd h, Ln h, Fi h, Fl h, up2 (Fr h) f a v, Ai h, Al h, Ar h, Nx h)
def sAi (h : Hp) (a j : Nat) (v : Int32) : Hp := (Kd h, Ln h, Fi h, Fl h, Fr h, up2 (Ai h) a j v, Al h, Ar h, Nx h)
def sAl (h : Hp) (a j : Nat) (v : Int64) : Hp := (Kd h, Ln h, Fi h, Fl h, Fr h, Ai h, up2 (Al h) a j v, Ar h, Nx h)
def sAr (h : Hp) (a j : Nat) (v : Option Nat) : Hp := (Kd h, Ln h, Fi h, Fl h, Fr h, Ai h, Al h, up2 (Ar h) a j v, Nx h)
/-- a new object of kind c -/
def nOb (h : Hp) (c : Nat) : Hp := (up1 (Kd h) (Nx h) c, Ln h, zr1 (Fi h) (Nx h) 0, zr1 (Fl h) (Nx h) 0, zr1 (Fr h) (Nx h) none, Ai h, Al h, Ar h, Nx h + 1)
/-- a new array of kind c -/
def nAy (h : Hp) (c n : Nat) : Hp := (up1 (Kd h) (Nx h) c, up1 (Ln h) (Nx h) n, Fi h, Fl h, Fr h, zr2 (Ai h) (Nx h) 0, zr2 (Al h) (Nx h) 0, zr2 (Ar h) (Nx h) none, Nx h + 1)
def fval (h : Hp) (f a : Nat) : Value := if fty f = 0 then .int (Fi h f a) else if fty f = 1 then .long (Fl h f a) else va_rf (Fr h f a)
abbrev GG : Type := Launch × State × (Nat → ClassId) × (Nat → Nat → Nat) × (Nat → ClassId)
def Gl (G : GG) : Launch := G.1
def G0 (G : GG) : State := G.2.1
def GD (G : GG) : va_G := (G.2.2.1, G.2.2.2.1)
def Gt (G : GG) : Nat → ClassId := G.2.2.2.2
def aty : Nat → FieldType := fun k => match k with
  | 101 => .int
  | 102 => .long
  | 103 => .byte
  | 104 => .short
  | 105 => .object "StrengthenFirst$Shelf"
  | _ => .object "StrengthenFirst$House"
def tysG (G : GG) : List (ClassId × FieldType) := [(Gt G 101, aty 101), (Gt G 102, aty 102), (Gt G 103, aty 103), (Gt G 104, aty 104), (Gt G 105, aty 105), (Gt G 106, aty 106)]
def encA (h : Hp) (a : Nat) : vp_A := (Ln h a, if Kd h a = 102 then .inr (.inl (Al h a)) else if Kd h a < 105 then .inl (Ai h a) else .inr (.inr (.inr (.inr (Ar h a)))))
def encO (h : Hp) (a : Nat) : List Value := (flds (Kd h a)).map (fun f => fval h f a)
def enc (G : GG) (h : Hp) (a : Nat) : va_E := if Kd h a < 100 then .inr (Kd h a - 1, encO h a) else .inl (Gt G (Kd h a), encA h a)
def Rel (G : GG) (h : Hp) (H : Heap) : Prop := H.size = Nx h ∧ (G0 G).heap.size ≤ Nx h ∧ (∀ q : Nat, q < (G0 G).heap.size → H[q]? = (G0 G).heap[q]?) ∧ (∀ a, Kd h a ≠ 0 → Kd h a ≠ 999 → (G0 G).heap.size ≤ a ∧ va_at (GD G) vwCl (a, enc G h a) H) ∧ (∀ a, Kd h a = 999 → a < (G0 G).heap.size ∧ va_X a (Ln h a) (Ai h a) (G0 G) (G0 G).heap) ∧ ∀ a, Ln h a < 2147483648
/-- kinds stay -/
def Gro (h h' : Hp) : Prop := Nx h ≤ Nx h' ∧ ∀ q, q < Nx h → Kd h' q = Kd h q
def Fre (h : Hp) : Nat → Prop := fun q => (Kd h q ≠ 0 ∧ Kd h q ≠ 999) ∨ Nx h ≤ q
theorem Gro.rf (h : Hp) : Gro h h := ⟨Nat.le_refl _, fun _ _ => rfl⟩
theorem Gro.tr {a b c : Hp} (h1 : Gro a b) (h2 : Gro b c) : Gro a c := ⟨Nat.le_trans h1.1 h2.1, fun q hq => (h2.2 q (Nat.lt_of_lt_of_le hq h1.1)).trans (h1.2 q hq)⟩
theorem Gro.fre {h h' : Hp} (g : Gro h h') {q : Nat} (f : Fre h' q) : Fre h q := by
  by_cases hq : q < Nx h
  · rcases f with f | f
    · rw [g.2 q hq] at f
      exact Or.inl f
    · exact absurd (Nat.le_trans g.1 f) (by omega)
  · exact Or.inr (by omega)
theorem Gro.same {h h' : Hp} (e1 : Kd h' = Kd h) (e2 : Nx h' = Nx h) : Gro h h' := ⟨by rw [e2]; exact Nat.le_refl _, fun _ _ => by rw [e1]⟩
theorem Rel.lt {G : GG} {h : Hp} {H : Heap} (r : Rel G h H) {a : Nat} (ha : Kd h a ≠ 0) : a < Nx h := by
  by_cases h9 : Kd h a = 999
  · exact Nat.lt_of_lt_of_le (r.2.2.2.2.1 a h9).1 r.2.1
  · have := (r.2.2.2.1 a ha h9).2.lt
    rw [r.1] at this
    exact this
theorem flds_nd (c : Nat) : (flds c).Nodup := by
  unfold flds
  split <;> decide +kernel
theorem flds_fds (c : Nat) (f : Nat) (h : f ∈ flds c) : c < 100 ∧ c ≠ 0 := by
  unfold flds at h
  split at h <;> first | exact absurd h List.not_mem_nil | exact ⟨by decide, by decide⟩
def hasF (c f : Nat) : Bool := (flds c).contains f
theorem hasF_mem {c f : Nat} (h : hasF c f = true) : f ∈ flds c := by simpa [hasF] using h
/-- one cell changed -/
theorem Rel.one {G : GG} {h h' : Hp} {H H1 : Heap} {a : Nat} (r : Rel G h H) (ha : Kd h a ≠ 0) (ha9 : Kd h a ≠ 999) (z : H1.size = H.size) (oq : ∀ q : Nat, q ≠ a → H1[q]? = H[q]?) (e1 : Kd h' = Kd h) (e2 : Ln h' = Ln h) (e3 : Nx h' = Nx h) (e4 : ∀ q, q ≠ a → enc G h' q = enc G h q) (e5 : va_at (GD G) vwCl (a, enc G h' a) H1) (e6 : ∀ q, q ≠ a → Ai h' q = Ai h q) : Rel G h' H1 := by
  obtain ⟨r1, r2, r3, r4, r5, r6⟩ := r
  have hb := (r4 a ha ha9).1
  refine ⟨by rw [z, r1, e3], by rw [e3]; exact r2, fun q hq => ?_, fun q hq h9 => ?_, fun q hq => ?_, fun q => by rw [e2]; exact r6 q⟩
  · rw [oq q (by omega)]; exact r3 q hq
  · rw [e1] at hq h9
    refine ⟨(r4 q hq h9).1, ?_⟩
    by_cases hqa : q = a
    · subst hqa; exact e5
    · rw [e4 q hqa]
      exact (r4 q hq h9).2.kept (oq q hqa)
  · rw [e1] at hq
    have hqa : q ≠ a := fun e => ha9 (e ▸ hq)
    rw [e2, e6 q hqa]
    exact r5 q hq
/-- one cell more -/
theorem Rel.more {G : GG} {h h' : Hp} {H H1 : Heap} {c : Nat} (r : Rel G h H) (hc : c ≠ 999) (z : H1.size = H.size + 1) (oq : ∀ q : Nat, q < H.size → H1[q]? = H[q]?) (e1 : Kd h' = up1 (Kd h) (Nx h) c) (e2 : ∀ q, q ≠ Nx h → Ln h' q = Ln h q) (e2' : Ln h' (Nx h) < 2147483648) (e3 : Nx h' = Nx h + 1) (e4 : ∀ q, q ≠ Nx h → enc G h' q = enc G h q) (e5 : va_at (GD G) vwCl (Nx h, enc G h' (Nx h)) H1) (e6 : ∀ q, q ≠ Nx h → Ai h' q = Ai h q) : Rel G h' H1 := by
  obtain ⟨r1, r2, r3, r4, r5, r6⟩ := r
  refine ⟨by rw [z, r1, e3], by rw [e3]; omega, fun q hq => ?_, fun q hq h9 => ?_, fun q hq => ?_, fun q => ?_⟩
  · rw [oq q (by omega)]; exact r3 q hq
  · by_cases hqa : q = Nx h
    · subst hqa; exact ⟨r2, e5⟩
    · rw [e1] at hq h9
      simp only [up1, if_neg hqa] at hq h9
      refine ⟨(r4 q hq h9).1, ?_⟩
      rw [e4 q hqa]
      refine (r4 q hq h9).2.kept (oq q ?_)
      exact (r4 q hq h9).2.lt
  · rw [e1] at hq
    by_cases hqa : q = Nx h
    · subst hqa
      simp only [up1, if_true] at hq
      exact absurd hq hc
    · simp only [up1, if_neg hqa] at hq
      rw [e2 q hqa, e6 q hqa]
      exact r5 q hq
  · by_cases hqa : q = Nx h
    · subst hqa; exact e2'
    · rw [e2 q hqa]; exact r6 q
theorem Gro.more {h h' : Hp} {c : Nat} (e1 : Kd h' = up1 (Kd h) (Nx h) c) (e3 : Nx h' = Nx h + 1) : Gro h h' := ⟨by omega, fun q hq => by rw [e1]; simp only [up1]; rw [if_neg (by omega)]⟩
/-! locals -/
def dV : Value := .float 0
def lg : List Value → Nat → Value
  | [], _ => dV
  | v :: _, 0 => v
  | _ :: r, n + 1 => lg r n
def dl (v : Value) : Value := match v with
  | .long _ => dV
  | v => v
def st1 : List Value → Nat → Value → List Value
  | [], _, _ => []
  | _ :: r, 0, v => v :: r
  | x :: r, 1, v => dl x :: st1 r 0 v
  | x :: r, n + 2, v => x :: st1 r (n + 1) v
def st2 : List Value → Nat → Value → List Value
  | [], _, _ => []
  | _ :: [], 0, v => [v]
  | _ :: _ :: r, 0, v => v :: dV :: r
  | x :: r, 1, v => dl x :: st2 r 0 v
  | x :: r, n + 2, v => x :: st2 r (n + 1) v
def isFl (v : Value) : Bool := match v with
  | .float _ => true
  | .double _ => true
  | _ => false
def prs : Nat → List Value → List (Nat × Value)
  | _, [] => []
  | n, v :: r => if isFl v then prs (n + 1) r else (n, v) :: prs (n + 1) r
def LH (ls : Array Slot) (n : Nat) (l : List Value) : Prop := lv_has ls n (prs 0 l)
theorem lv_mono {ls : Array Slot} {n : Nat} {b s : List (Nat × Value)} (h : lv_has ls n b) (hs : ∀ q ∈ s, q ∈ b) : lv_has ls n s := ⟨h.1, h.2.1, fun q hq => h.2.2 q (hs q hq)⟩
theorem prs_lg : ∀ (l : List Value) (n i : Nat) (v : Value), lg l i = v → isFl v = false → (n + i, v) ∈ prs n l
  | [], n, i, v, h, hf => by simp only [lg] at h; subst h; cases hf
  | x :: r, n, 0, v, h, hf => by
    simp only [lg] at h; subst h
    simp [prs, hf]
  | x :: r, n, i + 1, v, h, hf => by
    have h2 := prs_lg r (n + 1) i v (by simpa [lg] using h) hf
    rw [show n + (i + 1) = n + 1 + i by omega]
    unfold prs
    split
    · exact h2
    · exact List.mem_cons_of_mem _ h2
theorem LH.at {ls : Array Slot} {n i : Nat} {l : List Value} {v : Value} (h : LH ls n l) (hv : lg l i = v) (hf : isFl v = false) : ls[i]? = some (.val v) := by
  have := h.2.2 _ (prs_lg l 0 i v hv hf)
  simpa using this
theorem prs_ge : ∀ (l : List Value) (n : Nat) (q : Nat × Value), q ∈ prs n l → n ≤ q.1
  | [], n, q, h => by cases h
  | x :: r, n, q, h => by
    unfold prs at h
    split at h
    · have := prs_ge r (n + 1) q h; omega
    · rcases List.mem_cons.mp h with rfl | h
      · exact Nat.le_refl _
      · have := prs_ge r (n + 1) q h; omega
theorem prs_dl {x : Value} {n : Nat} {r : List Value} {q : Nat × Value} (h : q ∈ prs n (dl x :: r)) : (q = (n, x) ∧ ¬ x.category = 2 ∧ isFl x = false) ∨ q ∈ prs (n + 1) r := by
  unfold prs at h
  split at h
  · exact Or.inr h
  · rename_i hf
    rcases List.mem_cons.mp h with e | h
    · left
      cases x <;> simp_all [dl, dV, isFl, Value.category]
    · exact Or.inr h
theorem prs_cons {x : Value} {n : Nat} {r : List Value} {q : Nat × Value} (h : q ∈ prs (n + 1) r) : q ∈ prs n (x :: r) := by
  unfold prs
  split
  · exact h
  · exact List.mem_cons_of_mem _ h
theorem prs_head {x : Value} {n : Nat} {r : List Value} {q : Nat × Value} (h : q ∈ prs n (x :: r)) : (q = (n, x) ∧ isFl x = false) ∨ q ∈ prs (n + 1) r := by
  unfold prs at h
  split at h
  · exact Or.inr h
  · rename_i hf
    rcases List.mem_cons.mp h with e | h
    · exact Or.inl ⟨e, by simpa using hf⟩
    · exact Or.inr h
theorem prs_at0 {x : Value} {n : Nat} {r : List Value} (hf : isFl x = false) : (n, x) ∈ prs n (x :: r) := by
  simp [prs, hf]
theorem prs_st1 : ∀ (l : List Value) (n i : Nat) (v : Value) (q : Nat × Value), q ∈ prs n (st1 l i v) → q = (n + i, v) ∨ (q ∈ prs n l ∧ q.1 ≠ n + i ∧ ¬ (q.1 + 1 = n + i ∧ q.2.category = 2))
  | [], n, i, v, q, h => by simp [st1, prs] at h
  | x :: r, n, 0, v, q, h => by
    simp only [st1] at h
    rcases prs_head h with ⟨e, -⟩ | h
    · exact Or.inl e
    · have := prs_ge _ _ _ h
      exact Or.inr ⟨prs_cons h, by omega, by omega⟩
  | x :: r, n, 1, v, q, h => by
    simp only [st1] at h
    rcases prs_dl h with ⟨e, hc, hf⟩ | h
    · subst e
      exact Or.inr ⟨prs_at0 hf, by simp, fun h => hc h.2⟩
    · rcases prs_st1 r (n + 1) 0 v q h with e | ⟨h1, h2, h3⟩
      · exact Or.inl (by rw [e])
      · exact Or.inr ⟨prs_cons h1, by omega, fun ⟨a, b⟩ => h3 ⟨by omega, b⟩⟩
  | x :: r, n, i + 2, v, q, h => by
    simp only [st1] at h
    rcases prs_head h with ⟨e, hf⟩ | h
    · subst e
      exact Or.inr ⟨prs_at0 hf, by simp, by simp⟩
    · rcases prs_st1 r (n + 1) (i + 1) v q h with e | ⟨h1, h2, h3⟩
      · exact Or.inl (by rw [e]; congr 1; omega)
      · exact Or.inr ⟨prs_cons h1, by omega, fun ⟨a, b⟩ => h3 ⟨by omega, b⟩⟩
theorem prs_st2 : ∀ (l : List Value) (n i : Nat) (v : Value) (q : Nat × Value), q ∈ prs n (st2 l i v) → q = (n + i, v) ∨ (q ∈ prs n l ∧ q.1 ≠ n + i ∧ q.1 ≠ n + i + 1 ∧ ¬ (q.1 + 1 = n + i ∧ q.2.category = 2))
  | [], n, i, v, q, h => by simp [st2, prs] at h
  | x :: [], n, 0, v, q, h => by
    simp only [st2] at h
    rcases prs_head h with ⟨e, -⟩ | h
    · exact Or.inl e
    · simp [prs] at h
  | x :: y :: r, n, 0, v, q, h => by
    simp only [st2] at h
    rcases prs_head h with ⟨e, -⟩ | h
    · exact Or.inl e
    · rcases prs_head h with ⟨e, hf⟩ | h
      · cases hf
      · have := prs_ge _ _ _ h
        exact Or.inr ⟨prs_cons (prs_cons h), by omega, by omega, by omega⟩
  | x :: r, n, 1, v, q, h => by
    simp only [st2] at h
    rcases prs_dl h with ⟨e, hc, hf⟩ | h
    · subst e
      exact Or.inr ⟨prs_at0 hf, by simp, by show n ≠ n + 1 + 1; omega, fun h => hc h.2⟩
    · rcases prs_st2 r (n + 1) 0 v q h with e | ⟨h1, h2, h3, h4⟩
      · exact Or.inl (by rw [e])
      · exact Or.inr ⟨prs_cons h1, by omega, by omega, fun ⟨a, b⟩ => h4 ⟨by omega, b⟩⟩
  | x :: r, n, i + 2, v, q, h => by
    simp only [st2] at h
    rcases prs_head h with ⟨e, hf⟩ | h
    · subst e
      exact Or.inr ⟨prs_at0 hf, by simp, by show n ≠ n + (i + 2) + 1; omega, by simp⟩
    · rcases prs_st2 r (n + 1) (i + 1) v q h with e | ⟨h1, h2, h3, h4⟩
      · exact Or.inl (by rw [e]; congr 1; omega)
      · exact Or.inr ⟨prs_cons h1, by omega, by omega, fun ⟨a, b⟩ => h4 ⟨by omega, b⟩⟩
theorem LH.st1 {ls : Array Slot} {n i : Nat} {l : List Value} {v : Value} (h : lv_has ls n ((i, v) :: (prs 0 l).filter (fun q => !(q.1 == i) && !(q.1 + 1 == i && q.2.category == 2)))) : LH ls n (st1 l i v) := lv_mono h fun q hq => by
  rcases prs_st1 l 0 i v q hq with e | ⟨h1, h2, h3⟩
  · rw [e]; simp
  · refine List.mem_cons_of_mem _ (List.mem_filter.mpr ⟨h1, ?_⟩)
    simp only [Nat.zero_add] at h2 h3
    simp [h2]
    exact Decidable.not_and_iff_or_not.mp h3
theorem LH.st2 {ls : Array Slot} {n i : Nat} {l : List Value} {v : Value} (h : lv_has ls n ((i, v) :: (prs 0 l).filter (fun q => !(q.1 == i) && (!(q.1 == i + 1) && !(q.1 + 1 == i && q.2.category == 2))))) : LH ls n (st2 l i v) := lv_mono h fun q hq => by
  rcases prs_st2 l 0 i v q hq with e | ⟨h1, h2, h3, h4⟩
  · rw [e]; simp
  · refine List.mem_cons_of_mem _ (List.mem_filter.mpr ⟨h1, ?_⟩)
    simp only [Nat.zero_add] at h2 h3 h4
    simp [h2, h3]
    exact Decidable.not_and_iff_or_not.mp h4
/-- the locals at a method's start -/
def wid : List Value → List Value
  | [] => []
  | .long v :: r => .long v :: dV :: wid r
  | v :: r => v :: wid r
def ent (vs : List Value) (n : Nat) : List Value := wid vs ++ List.replicate (n - (wid vs).length) dV
theorem prs_rep : ∀ (k n : Nat), prs n (List.replicate k dV) = []
  | 0, n => rfl
  | k + 1, n => by
    rw [List.replicate_succ]
    simp only [prs, dV, isFl, if_true]
    exact prs_rep k (n + 1)
theorem prs_ent : ∀ (vs : List Value) (n k : Nat) (q : Nat × Value), (∀ v ∈ vs, isFl v = false) → q ∈ prs n (wid vs ++ List.replicate k dV) → q ∈ lv_args n vs
  | [], n, k, q, _, h => by simp [wid, prs_rep] at h
  | v :: r, n, k, q, hf, h => by
    have hr : ∀ w ∈ r, isFl w = false := fun w hw => hf w (List.mem_cons_of_mem _ hw)
    have hv : isFl v = false := hf v List.mem_cons_self
    have ih := fun m => prs_ent r m k q hr
    cases v with
    | long x =>
      simp only [wid, List.cons_append] at h
      rcases prs_head h with ⟨e, -⟩ | h
      · subst e; simp [lv_args]
      · rcases prs_head h with ⟨-, hf⟩ | h
        · cases hf
        · have := ih _ h
          simp [lv_args, Value.category, this]
    | float x => cases hv
    | double x => cases hv
    | _ =>
      simp only [wid, List.cons_append] at h
      rcases prs_head h with ⟨e, -⟩ | h
      · subst e; simp [lv_args]
      · have := ih _ h
        simp [lv_args, Value.category, this]
theorem LH.entry {vs : List Value} {n : Nat} (hf : ∀ v ∈ vs, isFl v = false) (h : (lg_sl vs).length ≤ n) : LH ((lg_sl vs ++ List.replicate (n - (lg_sl vs).length) Slot.unset).toArray) n (ent vs n) :=
  lv_mono (lv_entry vs h) fun q hq => prs_ent vs 0 _ q hf hq
