set_option maxRecDepth 100000
/-! methods: name, code, locals, answer, handlers (start, end, handler, pool entry, number of the caught class) -/
abbrev MR : Type := MethodName × ByteArray × Nat × Option FieldType × List (Nat × Nat × Nat × Nat × Nat)
def My (M : MR) : MethodName := M.1
def Mc (M : MR) : ByteArray := M.2.1
def Ml (M : MR) : Nat := M.2.2.1
def Mr (M : MR) : Option FieldType := M.2.2.2.1
def Mh (M : MR) : List (Nat × Nat × Nat × Nat × Nat) := M.2.2.2.2
def Mhh (M : MR) : List (Nat × Nat × Nat × Nat) := (Mh M).map (fun r => (r.1, r.2.1, r.2.2.1, r.2.2.2.1))
def Mw (M : MR) : Cond := if (Mh M).isEmpty then .code (My M) (Mc M) (Ml M) (Mr M) else .codeWith (My M) (Mc M) (Ml M) (Mr M) (Mhh M)
def Mws (M : MR) : List Cond := Mw M :: lw_all
def exN : Nat → String := fun e => match e with
  | 1 => "StrengthenFirst$Refused"
  | 2 => "StrengthenFirst$Faulty"
  | 3 => "java/lang/ArrayIndexOutOfBoundsException"
  | 4 => "java/lang/ClassCastException"
  | 5 => "java/lang/NegativeArraySizeException"
  | _ => "java/lang/IndexOutOfBoundsException"
def catches (e c : Nat) : Bool := (e == c) || (e == 3 && c == 6)
def cvr (r : Nat × Nat × Nat × Nat × Nat) (pc e : Nat) : Bool := decide (r.1 ≤ pc) && decide (pc < r.2.1) && catches e r.2.2.2.2
def hnd : List (Nat × Nat × Nat × Nat × Nat) → Nat → Nat → Option Nat
  | [], _, _ => none
  | r :: rs, pc, e => if cvr r pc e then some r.2.2.1 else hnd rs pc e
/-- what the tables say of a method -/
def MOk (M : MR) : Prop := Mw M ∈ lw_all ∧ Cond.initialized (My M).cls ∈ lw_all ∧ plainName (My M).cls = true ∧ ((My M).cls ≠ "java/lang/invoke/MethodHandle" ∧ (My M).cls ≠ "java/lang/invoke/VarHandle") ∧ Ml M ≤ 45 ∧ ∀ r ∈ Mh M, Cond.classLink (My M).cls r.2.2.2.1 (exN r.2.2.2.2) ∈ lw_all ∧ r.2.2.2.1 ≠ 0 ∧ 1 ≤ r.2.2.2.2 ∧ r.2.2.2.2 ≤ 6
/-- what holds at the start of the law -/
def Hy (G : GG) : Prop := (Gl G).stackTraces = false ∧ va_K (GD G) vwCl (tysG G) (G0 G) ∧ (∀ w ∈ lw_tbl, w.onTables = true → va_Nw w (G0 G)) ∧ (va_AO "StrengthenFirst$Shelf" (G0 G) ∧ va_AO "StrengthenFirst$House" (G0 G)) ∧
  (∀ e c, 1 ≤ e → e ≤ 4 → 1 ≤ c → c ≤ 6 → catches e c = true → va_Nw (.castable (exN e) (exN c)) (G0 G)) ∧ (∀ e c, 1 ≤ e → e ≤ 4 → 1 ≤ c → c ≤ 6 → catches e c = false → va_Nc (exN e) (exN c) (G0 G)) ∧
  (vx_Zq "java/lang/Throwable" "UNASSIGNED_STACK" "[Ljava/lang/StackTraceElement;" (fun q => (G0 G).heap.size ≤ q) (G0 G) (G0 G).heap ∧ vx_Zq "java/lang/Throwable" "SUPPRESSED_SENTINEL" "Ljava/util/List;" (fun q => (G0 G).heap.size ≤ q) (G0 G) (G0 G).heap)
def rmO (d mc ms : Nat) : Room := { frames := 20 + d, cells := mc, slots := ms, locals := 10400 + 64 * d }
def QcC (G : GG) (h : Hp) (O : Option Value → Hp → Prop) : Array Value → State → Outcome → State → Prop := fun _ st o t => (∃ r h', o = .returned r ∧ O r h' ∧ Rel G h' t.heap ∧ Gro h h') ∧ va_F (Fre h) st t
def XcC (G : GG) (h : Hp) (OX : Nat → Nat → Hp → Prop) : String → Addr → State → State → Prop := fun E q st t => (∃ e h', E = exN e ∧ (1 ≤ e ∧ e ≤ 4) ∧ OX e q h' ∧ Rel G h' t.heap ∧ Gro h h') ∧ va_F (Fre h) st t
/-- a method's contract on a small heap: d calls deep, mc cells and ms slots at most; O: what it returns, OX: what it throws -/
def Ct (G : GG) (M : MR) (d mc ms : Nat) (args : List Value) (h : Hp) (O : Option Value → Hp → Prop) (OX : Nat → Nat → Hp → Prop) : Prop :=
  Hy G → vx_Met (Gl G) (My M) (Mws M) (rmO d mc ms) (va_Pc args (fun U => Rel G h U.heap ∧ (G0 G).WarmedH U.vm)) (QcC G h O) (XcC G h OX) mc ms (Fre h)
abbrev nX : Nat → Nat → Hp → Prop := fun _ _ _ => False
def rIn : Option FieldType → Instr := fun r => match r with
  | none => .return_
  | some .long => .lreturn
  | some (.object _) => .areturn
  | some (.array _) => .areturn
  | some _ => .ireturn
def rOk : Option FieldType → Option Value → Prop := fun r v => match r, v with
  | none, none => True
  | some .int, some (.int _) => True
  | some .boolean, some (.int x) => x = 0 ∨ x = 1
  | some .long, some (.long _) => True
  | some (.object _), some .null => True
  | some (.object _), some (.ref _) => True
  | some (.array _), some .null => True
  | some (.array _), some (.ref _) => True
  | _, _ => False
/-- a frame of method M at launch -/
def Fm (G : GG) (M : MR) (h0 : Hp) (p : Program) (R : Room) (s : State) (m : MethodId) (args : Array Value) (meth : Method) (c : Code) : Prop :=
  p.tables.exec = Jvm.exec ∧ c.code = Mc M ∧ meth.sig.returnType = Mr M ∧ meth.locks = false ∧ c.maxLocals = Ml M ∧ s.vm.findClass (My M).cls = some m.cls ∧ (∀ w ∈ lw_all, w.before args s = true) ∧ (G0 G).WarmedH s.vm ∧ (∀ q : Nat, q < (G0 G).heap.size → s.heap[q]? = (G0 G).heap[q]?) ∧ s.heap.size = Nx h0 ∧
    ((My M).name ≠ "law" → meth.name = (My M).name ∧ c.exceptionTable.toList = tableOf (Mhh M)) ∧ Hy G ∧ ∃ d, R.frames = 20 + d ∧ R.locals = 10400 + 64 * d
section WWs
variable (G : GG) (M : MR) (R : Room) (h0 : Hp) (O : Option Value → Hp → Prop) (OX : Nat → Nat → Hp → Prop)
def RHd (p : Program) (e : Env) (s : State) (m : MethodId) (args : Array Value) (below : List Frame) (meth : Method) (c : Code) (ZZ : State → Prop) : Prop :=
  ∀ (v : Option Value) (h' : Hp) (H' : Heap) (locs' : List Loc) (cells' slots' pc' : Nat) (ls' : Array Slot), rOk (Mr M) v → O v h' → Rel G h' H' → Gro h0 h' → va_S (Fre h0) s.heap H' locs' → cells' ≤ R.cells → slots' ≤ R.slots → decode (Mc M) pc' = .ok (rIn (Mr M), 1) →
    W p (Gl G) e R s m args below meth c H' locs' cells' slots' ZZ (F0 m pc' ls' v.toList)
def THd (p : Program) (e : Env) (s : State) (m : MethodId) (args : Array Value) (below : List Frame) (meth : Method) (c : Code) (ZZ : State → Prop) : Prop :=
  ∀ (ex : Nat) (q : Addr) (ce : Cell) (h' : Hp) (H' : Heap) (locs' : List Loc) (cells' slots' pc' : Nat) (ls' : Array Slot) (rest' : List Value), 1 ≤ ex → ex ≤ 4 → OX ex q h' → Rel G h' H' → Gro h0 h' → va_S (Fre h0) s.heap H' locs' → cells' ≤ R.cells → slots' ≤ R.slots →
    (∀ z ∈ c.exceptionTable.toList, covers z pc' = false ∨ (z.catchType ≠ 0 ∧ ∃ nm : String, (Cond.classLink (My M).cls z.catchType nm).before args s = true ∧ va_Nc (exN ex) nm s)) → H'[q]? = some ce → ce.vm = .none → s.vm.findClass (exN ex) = some ce.cls →
    vx_W p (Gl G) e R s m args below meth c H' locs' cells' slots' ZZ (F0 m pc' ls' rest') q
def WW (pc : Nat) (l st : List Value) (h : Hp) (bc bs : Nat) : Prop :=
  ∀ (p : Program) (e : Env) (s : State) (m : MethodId) (args : Array Value) (below : List Frame) (meth : Method) (c : Code) (ZZ : State → Prop),
    Fm G M h0 p R s m args meth c → RHd G M R h0 O p e s m args below meth c ZZ → THd G M R h0 OX p e s m args below meth c ZZ →
    ∀ (H : Heap) (locs : List Loc) (cells slots : Nat) (ls : Array Slot), Rel G h H → Gro h0 h → va_S (Fre h0) s.heap H locs → LH ls (Ml M) l → cells + bc ≤ R.cells → slots + bs ≤ R.slots →
      W p (Gl G) e R s m args below meth c H locs cells slots ZZ (F0 m pc ls st)
def ThC (pc ex q : Nat) (l : List Value) (h : Hp) (bc bs : Nat) : Prop := (My M).name ≠ "law" ∧ match hnd (Mh M) pc ex with
  | some tgt => WW G M R h0 O OX tgt l [.ref q] h bc bs
  | none => OX ex q h
end WWs
/-- the transformers: what an instruction asks, so that what stands behind it holds -/
abbrev KK : Type := List Value → List Value → Hp → Nat → Nat → Prop
abbrev TT : Type := Nat → Nat → Nat → List Value → Hp → Nat → Nat → Prop
abbrev Tr : Type := GG → Nat → (Nat → KK) → (Option Value → Hp → Prop) → TT → KK → KK
def wpB : List Tr → GG → Nat → (Nat → KK) → (Option Value → Hp → Prop) → TT → KK → KK
  | [], _, _, _, _, _, k => k
  | t :: r, G, d, J, Rt, T, k => t G d J Rt T (wpB r G d J Rt T k)
def Snd (M : MR) (pc nx : Nat) (t : Tr) : Prop := ∀ (G : GG) (R : Room) (d : Nat) (h0 : Hp) (O : Option Value → Hp → Prop) (OX : Nat → Nat → Hp → Prop) (kn : KK), R.frames = 20 + d → R.locals = 10400 + 64 * d → (∀ l st h bc bs, kn l st h bc bs → WW G M R h0 O OX nx l st h bc bs) →
  ∀ l st h bc bs, t G d (WW G M R h0 O OX) (fun v h => rOk (Mr M) v ∧ O v h) (ThC G M R h0 O OX) kn l st h bc bs → WW G M R h0 O OX pc l st h bc bs
def BS (M : MR) : Nat → Nat → List Tr → Prop
  | pc, nx, [] => pc = nx
  | pc, nx, t :: r => ∃ mid, Snd M pc mid t ∧ BS M mid nx r
theorem BS.n {M : MR} {pc : Nat} : BS M pc pc [] := rfl
theorem BS.c {M : MR} {pc mid nx : Nat} {t : Tr} {r : List Tr} (h : Snd M pc mid t) (b : BS M mid nx r) : BS M pc nx (t :: r) := ⟨mid, h, b⟩
theorem BS.use {M : MR} {G : GG} {R : Room} {d : Nat} {h0 : Hp} {O : Option Value → Hp → Prop} {OX : Nat → Nat → Hp → Prop} (hf : R.frames = 20 + d) (hl : R.locals = 10400 + 64 * d) : ∀ (ts : List Tr) (pc nx : Nat) (kn : KK), BS M pc nx ts → (∀ l st h bc bs, kn l st h bc bs → WW G M R h0 O OX nx l st h bc bs) →
    ∀ l st h bc bs, wpB ts G d (WW G M R h0 O OX) (fun v h => rOk (Mr M) v ∧ O v h) (ThC G M R h0 O OX) kn l st h bc bs → WW G M R h0 O OX pc l st h bc bs
  | [], pc, nx, kn, hb, hk, l, st, h, bc, bs, hw => by
    have e : pc = nx := hb
    subst e
    exact hk _ _ _ _ _ hw
  | t :: r, pc, nx, kn, hb, hk, l, st, h, bc, bs, hw => by
    obtain ⟨mid, h1, h2⟩ := hb
    exact h1 G R d h0 O OX _ hf hl (fun l st h bc bs hw => BS.use hf hl r mid nx kn h2 hk l st h bc bs hw) l st h bc bs hw
/-- a block of the method -/
theorem blk {M : MR} {G : GG} {d mc ms : Nat} {h0 : Hp} {O : Option Value → Hp → Prop} {OX : Nat → Nat → Hp → Prop} {ts : List Tr} {pc nx : Nat} {l st : List Value} {h : Hp} {bc bs : Nat} (hb : BS M pc nx ts)
    (hw : wpB ts G d (WW G M (rmO d mc ms) h0 O OX) (fun v h => rOk (Mr M) v ∧ O v h) (ThC G M (rmO d mc ms) h0 O OX) (WW G M (rmO d mc ms) h0 O OX nx) l st h bc bs) : WW G M (rmO d mc ms) h0 O OX pc l st h bc bs :=
  BS.use rfl rfl ts pc nx _ hb (fun _ _ _ _ _ h => h) l st h bc bs hw
/-- a step that changes stack and locals alone -/
theorem WW.go {G : GG} {M : MR} {R : Room} {h0 : Hp} {O : Option Value → Hp → Prop} {OX : Nat → Nat → Hp → Prop} {pc nx : Nat} {l l' st st' : List Value} {h : Hp} {bc bs : Nat}
    (hw : ∀ (p : Program) (e : Env) (s : State) (m : MethodId) (args : Array Value) (below : List Frame) (meth : Method) (c : Code) (ZZ : State → Prop) (H : Heap) (locs : List Loc) (cells slots : Nat) (ls : Array Slot), Fm G M h0 p R s m args meth c → p.tables.exec = Jvm.exec → c.code = Mc M → LH ls (Ml M) l →
      (∀ ls', LH ls' (Ml M) l' → W p (Gl G) e R s m args below meth c H locs cells slots ZZ (F0 m nx ls' st')) → W p (Gl G) e R s m args below meth c H locs cells slots ZZ (F0 m pc ls st))
    (k : WW G M R h0 O OX nx l' st' h bc bs) : WW G M R h0 O OX pc l st h bc bs := by
  intro p e s m args below meth c ZZ F hRt hTt H locs cells slots ls hR hG hS hL h1 h2
  exact hw p e s m args below meth c ZZ H locs cells slots ls F F.1 F.2.1 hL (fun ls' hL' => k p e s m args below meth c ZZ F hRt hTt H locs cells slots ls' hR hG hS hL' h1 h2)
/-- .. and the same locals -/
theorem WW.st {G : GG} {M : MR} {R : Room} {h0 : Hp} {O : Option Value → Hp → Prop} {OX : Nat → Nat → Hp → Prop} {pc nx : Nat} {l st st' : List Value} {h : Hp} {bc bs : Nat}
    (hw : ∀ (p : Program) (e : Env) (s : State) (m : MethodId) (args : Array Value) (below : List Frame) (meth : Method) (c : Code) (ZZ : State → Prop) (H : Heap) (locs : List Loc) (cells slots : Nat) (ls : Array Slot), p.tables.exec = Jvm.exec → c.code = Mc M → LH ls (Ml M) l →
      W p (Gl G) e R s m args below meth c H locs cells slots ZZ (F0 m nx ls st') → W p (Gl G) e R s m args below meth c H locs cells slots ZZ (F0 m pc ls st))
    (k : WW G M R h0 O OX nx l st' h bc bs) : WW G M R h0 O OX pc l st h bc bs :=
  WW.go (fun p e s m args below meth c ZZ H locs cells slots ls _ hx hb hL kk => hw p e s m args below meth c ZZ H locs cells slots ls hx hb hL (kk ls hL)) k
