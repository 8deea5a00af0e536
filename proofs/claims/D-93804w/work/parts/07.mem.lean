set_option maxRecDepth 100000
section Rows1
variable {p : Program} {l : Launch} {e : Env} {R : Room} {s : State} {m : MethodId} {args : Array Value} {below : List Frame} {meth : Method} {c : Code} {H : Heap} {locs : List Loc} {cells slots : Nat} {Q : State → Prop}
variable {cc : ByteArray} {pc : Nat} {ls : Array Slot} {rest : List Value} {D : va_G} {cl : List vw_C} {a : Nat} {tys : List (ClassId × FieldType)} {ws : va_W}
theorem va_P1 {q : Nat × va_E} (h : va_at D cl q H) : va_P D cl [q] H := by
  intro k x hk
  match k, hk with
  | 0, hk => cases hk; exact h
  | k + 1, hk => cases hk
theorem row_put (hexec : p.tables.exec = Jvm.exec) (hb : c.code = cc) {own ref C : String} {T : u_T} {N ci index : Nat} {Ts : List Cond} (hts : ∀ w ∈ Ts, w.before args s = true) (hin : ∀ w ∈ u_ws C T N, w ∈ Ts) (ty0 : Nat → FieldType) (hty : ∀ k, k < N → parseFieldDescriptor (T k).2.2.1 = some (ty0 k)) (hnm : ∀ a, a < N → ∀ b, b < N → a ≠ b → (T a).2.1 ≠ (T b).2.1) (hown : s.vm.findClass own = some m.cls) (hK : va_K D cl tys s) {fs : List Value} (he : va_at D cl (a, .inr (ci, fs)) H) (hc : cl[ci]? = some (C, T, N)) (k : Nat) (hk : k < N) (hlink : (Cond.fieldLink own index ref (T k).2.1 (T k).2.2.1).before args s = true) (hsame : ∀ x, s.fieldFound? (T k).1 (T k).2.1 (T k).2.2.1 = some x → s.fieldFound? ref (T k).2.1 (T k).2.2.1 = some x) (hfin : (T k).2.2.2 = false ∨ ((T k).2.2.2 = true ∧ meth.name = "<init>" ∧ (T k).1 = own)) {ty : FieldType} {v : Value} (hd : parseFieldDescriptor (T k).2.2.1 = some ty) (hn : narrow ty v = v) (hfit : fits ty v = true) (hl : k < fs.length)
    (hdg : decode cc pc = .ok (.putfield index, 3)) (kk : ∀ (H1 : Heap) (i : Nat), va_at D cl (a, .inr (ci, fs.set k v)) H1 → H1.size = H.size → (∀ q : Nat, q ≠ a → H1[q]? = H[q]?) → W p l e R s m args below meth c H1 (locs ++ [⟨a, i⟩]) cells slots Q (F0 m (pc + 3) ls rest)) : W p l e R s m args below meth c H locs cells slots Q (F0 m pc ls (v :: .ref a :: rest)) := by
  have hap := va_apart (own := own) hts hin ty0 hty hnm hK hc
  obtain ⟨r, h1, cell, q1, q2, q3, q4⟩ := he
  have hr : r = (C, T, N) := Option.some.inj (h1.symm.trans hc)
  subst hr
  obtain ⟨hS, hfc, kC, hkC, hkind⟩ := hK.1 ci _ hc
  obtain ⟨cf, kf, fi, f, hi, hsl⟩ := hS k hk
  have hlay := hts _ (hin _ (u_in_lay hk))
  unfold u_lay at hlay
  have hst := (u_facts hfc hkC (u_lays hts hin hk) hi).1
  rcases hfin with hfin | ⟨hfin, hin2, hdecl⟩
  · rw [if_neg (by rw [hfin]; decide)] at hlay
    have h6 := u_store hfc hkC hkind hlay hi hd hn hfit
    refine W.putK hexec hb (f := f) ⟨hown, hlink, ⟨_, _, _, hsame _ hi⟩, hst⟩ (by rw [q2]; exact h6) q1 q3 (by rw [hsl]; exact k2_hasslot (q4 k hk)) rfl rfl hdg fun H' e1 e2 e3 => ?_
    rw [hsl] at e1
    exact kk H' _ ⟨_, hc, t_OB.to (V := updV (vp_V fs) k v) ⟨_, e1, q2, q3, t_set q4 hap hk v⟩ (fun j _ => vp_updV_set hl v j)⟩ e2 e3
  · rw [if_pos hfin] at hlay
    have hcf : m.cls = cf := by
      obtain ⟨_, _, c', _, _, _, -, -, hf', -, -, -, hown2, -⟩ := Cond.laysFinal_spec hlay
      have e1 : c' = cf := by have := hi.symm.trans hf'; simp at this; exact this.1.symm
      rw [hdecl] at hown2
      rw [← e1]; exact Option.some.inj (hown.symm.trans hown2)
    have h6 := u_fits hfc hkC hkind (Or.inr hlay) hi hd hn hfit
    refine W.putFinK hexec hb hown hlink (hsame _ hi) hst hcf hin2 (by rw [q2]; exact h6) q1 q3 (by rw [hsl]; exact k2_hasslot (q4 k hk)) rfl rfl hdg fun H' e1 e2 e3 => ?_
    rw [hsl] at e1
    exact kk H' _ ⟨_, hc, t_OB.to (V := updV (vp_V fs) k v) ⟨_, e1, q2, q3, t_set q4 hap hk v⟩ (fun j _ => vp_updV_set hl v j)⟩ e2 e3
theorem row_iast (hexec : p.tables.exec = Jvm.exec) (hb : c.code = cc) {cA : ClassId} {n : Nat} {f : Nat → Int32} (ha : va_at D cl (a, .inl (cA, n, .inl f)) H) (ht : ArrOfT s cA .int) {i : Int32} {x : Int32} (hin : vp_in i n) (hdg : decode cc pc = .ok (.iastore, 1))
    (kk : ∀ (H1 : Heap) (j : Nat), va_at D cl (a, .inl (cA, n, .inl (upd f i.toNatClampNeg x))) H1 → H1.size = H.size → (∀ q : Nat, q ≠ a → H1[q]? = H[q]?) → W p l e R s m args below meth c H1 (locs ++ [⟨a, j⟩]) cells slots Q (F0 m (pc + 1) ls rest)) : W p l e R s m args below meth c H locs cells slots Q (F0 m pc ls (.int x :: .int i :: .ref a :: rest)) := by
  refine W.iast hexec hb ha (ht n (fun j => .int (f j))) (fun q => by cases q) (by show ¬ (i < 0 ∨ (arrV _ _ _).slots.size ≤ _); rw [arrV_size]; exact hin) rfl rfl hdg fun H1 e z oq => ?_
  refine kk H1 _ ?_ z oq
  show H1[a]? = some (vp_cell _ _)
  rw [e]
  rw [vp_cell_i, vp_cell_i, arrV_store]
  congr 2
  funext q
  by_cases hq : q = i.toNatClampNeg
  · subst hq
    simp [updV, upd]
  · simp [updV, upd, hq]
theorem row_bast (hexec : p.tables.exec = Jvm.exec) (hb : c.code = cc) {cA : ClassId} {n : Nat} {f : Nat → Int32} (ha : va_at D cl (a, .inl (cA, n, .inl f)) H) (ht : ArrOfT s cA .byte) {i : Int32} {x : Int32} (hin : vp_in i n) (hdg : decode cc pc = .ok (.bastore, 1))
    (kk : ∀ (H1 : Heap) (j : Nat), va_at D cl (a, .inl (cA, n, .inl (upd f i.toNatClampNeg (vp_nar .byte x)))) H1 → H1.size = H.size → (∀ q : Nat, q ≠ a → H1[q]? = H[q]?) → W p l e R s m args below meth c H1 (locs ++ [⟨a, j⟩]) cells slots Q (F0 m (pc + 1) ls rest)) : W p l e R s m args below meth c H locs cells slots Q (F0 m pc ls (.int x :: .int i :: .ref a :: rest)) := by
  refine W.bast hexec hb ha (ht n (fun j => .int (f j))) (fun q => by cases q) (by show ¬ (i < 0 ∨ (arrV _ _ _).slots.size ≤ _); rw [arrV_size]; exact hin) rfl rfl hdg fun H1 e z oq => ?_
  refine kk H1 _ ?_ z oq
  show H1[a]? = some (vp_cell _ _)
  rw [e]
  rw [vp_cell_i, vp_cell_i, arrV_store]
  congr 2
  funext q
  by_cases hq : q = i.toNatClampNeg
  · subst hq
    simp [updV, upd, vp_nar]
    try rfl
  · simp [updV, upd, hq]
theorem row_sast (hexec : p.tables.exec = Jvm.exec) (hb : c.code = cc) {cA : ClassId} {n : Nat} {f : Nat → Int32} (ha : va_at D cl (a, .inl (cA, n, .inl f)) H) (ht : ArrOfT s cA .short) {i : Int32} {x : Int32} (hin : vp_in i n) (hdg : decode cc pc = .ok (.sastore, 1))
    (kk : ∀ (H1 : Heap) (j : Nat), va_at D cl (a, .inl (cA, n, .inl (upd f i.toNatClampNeg (vp_nar .short x)))) H1 → H1.size = H.size → (∀ q : Nat, q ≠ a → H1[q]? = H[q]?) → W p l e R s m args below meth c H1 (locs ++ [⟨a, j⟩]) cells slots Q (F0 m (pc + 1) ls rest)) : W p l e R s m args below meth c H locs cells slots Q (F0 m pc ls (.int x :: .int i :: .ref a :: rest)) := by
  refine W.sast hexec hb ha (ht n (fun j => .int (f j))) (fun q => by cases q) (by show ¬ (i < 0 ∨ (arrV _ _ _).slots.size ≤ _); rw [arrV_size]; exact hin) rfl rfl hdg fun H1 e z oq => ?_
  refine kk H1 _ ?_ z oq
  show H1[a]? = some (vp_cell _ _)
  rw [e]
  rw [vp_cell_i, vp_cell_i, arrV_store]
  congr 2
  funext q
  by_cases hq : q = i.toNatClampNeg
  · subst hq
    simp [updV, upd, vp_nar]
    try rfl
  · simp [updV, upd, hq]
theorem row_last (hexec : p.tables.exec = Jvm.exec) (hb : c.code = cc) {cA : ClassId} {n : Nat} {f : Nat → Int64} (ha : va_at D cl (a, .inl (cA, n, .inr (.inl f))) H) (ht : ArrOfT s cA .long) {i : Int32} {x : Int64} (hin : vp_in i n) (hdg : decode cc pc = .ok (.lastore, 1))
    (kk : ∀ (H1 : Heap) (j : Nat), va_at D cl (a, .inl (cA, n, .inr (.inl (vp_updL f i.toNatClampNeg x)))) H1 → H1.size = H.size → (∀ q : Nat, q ≠ a → H1[q]? = H[q]?) → W p l e R s m args below meth c H1 (locs ++ [⟨a, j⟩]) cells slots Q (F0 m (pc + 1) ls rest)) : W p l e R s m args below meth c H locs cells slots Q (F0 m pc ls (.long x :: .int i :: .ref a :: rest)) := by
  refine W.last hexec hb ha (ht n (fun j => .long (f j))) (fun q => by cases q) (by show ¬ (i < 0 ∨ (arrV _ _ _).slots.size ≤ _); rw [arrV_size]; exact hin) rfl rfl hdg fun H1 e z oq => ?_
  refine kk H1 _ ?_ z oq
  show H1[a]? = some (vp_cell _ _)
  rw [e]
  rw [vp_cell_l, vp_cell_l, arrV_store]
  congr 2
  funext q
  by_cases hq : q = i.toNatClampNeg
  · subst hq
    simp [updV, vp_updL]
  · simp [updV, vp_updL, hq]
theorem row_aast (hexec : p.tables.exec = Jvm.exec) (hb : c.code = cc) (hK : va_K D cl tys s) (t0 ci : Nat) {cA : ClassId} {r : vw_C} {n v : Nat} {vs : List Value} {f : Nat → Option Nat} (ha : va_at D cl (a, .inl (cA, n, .inr (.inr (.inr (.inr f))))) H) (ht : tys[t0]? = some (cA, .object r.1)) (hv : va_at D cl (v, .inr (ci, vs)) H) (hc : cl[ci]? = some r) {i : Int32} (hin : vp_in i n) (hdg : decode cc pc = .ok (.aastore, 1))
    (kk : ∀ (H1 : Heap) (j : Nat), va_at D cl (a, .inl (cA, n, .inr (.inr (.inr (.inr (va_up f i.toNatClampNeg (some v))))))) H1 → H1.size = H.size → (∀ q : Nat, q ≠ a → H1[q]? = H[q]?) → W p l e R s m args below meth c H1 (locs ++ [⟨a, j⟩]) cells slots Q (F0 m (pc + 1) ls rest)) : W p l e R s m args below meth c H locs cells slots Q (F0 m pc ls (.ref v :: .int i :: .ref a :: rest)) := by
  have hlt : i.toNatClampNeg < n := Nat.not_le.mp fun q => hin (Or.inr q)
  have h0 : ¬ i < 0 := fun q => hin (Or.inl q)
  obtain ⟨r', hr', cellV, g1, g2, g3, -⟩ := hv
  have hcls := (hK.1 ci r hc).2
  obtain ⟨kA, comp, k1, k2, k3, -⟩ := (hK.2 t0 _ ht).2
  have hcomp : comp = D.1 ci := Option.some.inj (k3.symm.trans hcls.1)
  subst hcomp
  obtain ⟨kC, hkC, -⟩ := hcls.2
  refine W.aast hexec hb ha (fun q h => by cases h) (fun h => by cases h) k1 k2 rfl hkC ⟨h0, by show _ < (arrV _ _ _).slots.size; rw [arrV_size]; exact hlt⟩ g1 (fun q h => by rw [g3] at h; cases h) (by rw [g2]; exact hkC) (by rw [g2]; exact va_assign hcls) rfl rfl hdg fun H1 e z oq => ?_
  refine kk H1 _ ?_ z oq
  show H1[a]? = some (vp_cell _ _)
  rw [e]
  rw [vp_cell_q, vp_cell_q, arrV_store]
  congr 2
  funext q
  by_cases hq : q = i.toNatClampNeg
  · subst hq
    simp [updV, va_up, va_rf]
  · simp [updV, va_up, hq]
theorem row_new (hexec : p.tables.exec = Jvm.exec) (hb : c.code = cc) {own C : String} {T : u_T} {N ci index : Nat} {Ts : List Cond} (hts : ∀ w ∈ Ts, w.before args s = true) (hin : ∀ w ∈ u_ws C T N, w ∈ Ts) (ty : Nat → FieldType) (hty : ∀ k, k < N → parseFieldDescriptor (T k).2.2.1 = some (ty k)) (hown : s.vm.findClass own = some m.cls) (hcl : (Cond.classLink own index C).before args s = true) (hinst : (Cond.instantiable C N).before args s = true) (hini : (Cond.initialized C).before args s = true)
    (hK : va_K D cl tys s) (hc : cl[ci]? = some (C, T, N)) {fs : List Value} (hfs : ∀ j, j < N → defaultValue (ty j) = vp_V fs j) (hcells : cells + 1 ≤ R.cells) (hslots : slots + N ≤ R.slots) (hdg : decode cc pc = .ok (.new index, 3))
    (kk : ∀ (H1 : Heap), va_at D cl (H.size, .inr (ci, fs)) H1 → H1.size = H.size + 1 → (∀ q : Nat, q < H.size → H1[q]? = H[q]?) →
      W p l e R s m args below meth c H1 locs (cells + 1) (slots + N) Q (F0 m (pc + 3) ls (.ref H.size :: rest))) : W p l e R s m args below meth c H locs cells slots Q (F0 m pc ls rest) := by
  have hKn := hK.1 ci _ hc
  refine W.newcK hexec hb hown hcl hinst hini rfl hdg hcells hslots hKn.2.1 rfl fun H1 kC hkC e1 z1 o1 => ?_
  exact kk H1 ⟨_, hc, (u_born ty hts hin hKn hkC e1 hty).to hfs⟩ z1 o1
end Rows1
/-! ===== the small heap under stores ===== -/
theorem encO_set {h h' : Hp} {a k f : Nat} {v : Value} (e1 : Kd h' = Kd h) (hk : (flds (Kd h a))[k]? = some f) (hv : fval h' f a = v) (hne : ∀ g, g ≠ f → fval h' g a = fval h g a) : encO h' a = (encO h a).set k v := by
  unfold encO
  rw [e1]
  have hnd := flds_nd (Kd h a)
  apply List.ext_getElem?
  intro i
  rw [List.getElem?_map, List.getElem?_set, List.length_map, List.getElem?_map]
  by_cases hi : k = i
  · subst hi
    have hl := (List.getElem?_eq_some_iff.mp hk).1
    rw [if_pos rfl, if_pos hl, hk]
    simp [hv]
  · rw [if_neg hi]
    cases hx : (flds (Kd h a))[i]? with
    | none => rfl
    | some g =>
      have hg : g ≠ f := by
        intro e
        subst e
        have h1 := List.getElem?_eq_some_iff.mp hk
        have h2 := List.getElem?_eq_some_iff.mp hx
        exact hi ((List.getElem_inj hnd).mp (h1.2.trans h2.2.symm))
      simp [hne g hg]
theorem enc_obj {G : GG} {h : Hp} {a : Nat} (hc : Kd h a < 100) : enc G h a = .inr (Kd h a - 1, encO h a) := by simp [enc, hc]
theorem enc_arr {G : GG} {h : Hp} {a : Nat} (hc : ¬ Kd h a < 100) : enc G h a = .inl (Gt G (Kd h a), encA h a) := by simp [enc, hc]
theorem fval_sFi_self {h : Hp} {f a : Nat} {v : Int32} (hf : fty f = 0) : fval (sFi h f a v) f a = .int v := by simp [fval, hf, sFi, Fi, up2]
theorem fval_sFl_self {h : Hp} {f a : Nat} {v : Int64} (hf : fty f = 1) : fval (sFl h f a v) f a = .long v := by simp [fval, hf, sFl, Fl, up2]
theorem fval_sFr_self {h : Hp} {f a : Nat} {v : Option Nat} (hf : fty f = 2) : fval (sFr h f a v) f a = va_rf v := by simp [fval, hf, sFr, Fr, up2]
theorem fval_sFi_ne {h : Hp} {f g a b : Nat} {v : Int32} (hn : ¬ (g = f ∧ b = a)) : fval (sFi h f a v) g b = fval h g b := by simp [fval, sFi, Fi, Fl, Fr, up2, hn]
theorem fval_sFl_ne {h : Hp} {f g a b : Nat} {v : Int64} (hn : ¬ (g = f ∧ b = a)) : fval (sFl h f a v) g b = fval h g b := by simp [fval, sFl, Fi, Fl, Fr, up2, hn]
theorem fval_sFr_ne {h : Hp} {f g a b : Nat} {v : Option Nat} (hn : ¬ (g = f ∧ b = a)) : fval (sFr h f a v) g b = fval h g b := by simp [fval, sFr, Fi, Fl, Fr, up2, hn]
theorem enc_ne_F {G : GG} {h h' : Hp} {q : Nat} (e1 : Kd h' = Kd h) (e2 : Ln h' = Ln h) (e3 : Ai h' = Ai h) (e4 : Al h' = Al h) (e5 : Ar h' = Ar h) (hf : ∀ g, fval h' g q = fval h g q) : enc G h' q = enc G h q := by
  unfold enc encO encA
  rw [e1, e2, e3, e4, e5]
  simp only [hf]
theorem enc_ne_A {G : GG} {h h' : Hp} {q : Nat} (e1 : Kd h' q = Kd h q) (e2 : Ln h' q = Ln h q) (e3 : Ai h' q = Ai h q) (e4 : Al h' q = Al h q) (e5 : Ar h' q = Ar h q) (hf : ∀ g, fval h' g q = fval h g q) : enc G h' q = enc G h q := by
  unfold enc encO encA
  rw [e1, e2, e3, e4, e5]
  simp only [hf]
/-- what a frame knows of the classes -/
theorem Fm.K {G : GG} {M : MR} {h0 : Hp} {p : Program} {R : Room} {s : State} {m : MethodId} {args : Array Value} {meth : Method} {c : Code} (F : Fm G M h0 p R s m args meth c) : va_K (GD G) vwCl (tysG G) s := va_K.moved F.2.2.2.2.2.2.2.1.alike F.2.2.2.2.2.2.2.2.2.2.2.1.2.1
theorem Fm.hx {G : GG} {M : MR} {h0 : Hp} {p : Program} {R : Room} {s : State} {m : MethodId} {args : Array Value} {meth : Method} {c : Code} (F : Fm G M h0 p R s m args meth c) : p.tables.exec = Jvm.exec := F.1
theorem Fm.hb {G : GG} {M : MR} {h0 : Hp} {p : Program} {R : Room} {s : State} {m : MethodId} {args : Array Value} {meth : Method} {c : Code} (F : Fm G M h0 p R s m args meth c) : c.code = Mc M := F.2.1
theorem Fm.own {G : GG} {M : MR} {h0 : Hp} {p : Program} {R : Room} {s : State} {m : MethodId} {args : Array Value} {meth : Method} {c : Code} (F : Fm G M h0 p R s m args meth c) : s.vm.findClass (My M).cls = some m.cls := F.2.2.2.2.2.1
theorem Fm.ts {G : GG} {M : MR} {h0 : Hp} {p : Program} {R : Room} {s : State} {m : MethodId} {args : Array Value} {meth : Method} {c : Code} (F : Fm G M h0 p R s m args meth c) : ∀ w ∈ lw_all, w.before args s = true := F.2.2.2.2.2.2.1
theorem Fm.warm {G : GG} {M : MR} {h0 : Hp} {p : Program} {R : Room} {s : State} {m : MethodId} {args : Array Value} {meth : Method} {c : Code} (F : Fm G M h0 p R s m args meth c) : (G0 G).WarmedH s.vm := F.2.2.2.2.2.2.2.1
theorem Fm.hy {G : GG} {M : MR} {h0 : Hp} {p : Program} {R : Room} {s : State} {m : MethodId} {args : Array Value} {meth : Method} {c : Code} (F : Fm G M h0 p R s m args meth c) : Hy G := F.2.2.2.2.2.2.2.2.2.2.2.1
theorem Fm.hml {G : GG} {M : MR} {h0 : Hp} {p : Program} {R : Room} {s : State} {m : MethodId} {args : Array Value} {meth : Method} {c : Code} (F : Fm G M h0 p R s m args meth c) : c.maxLocals = Ml M := F.2.2.2.2.1
/-- a field's link in a method's pool -/
def FL (M : MR) (idx f : Nat) : Prop := ∃ ref, Cond.fieldLink (My M).cls idx ref (fds f).2.1 (fds f).2.2.1 ∈ lw_all ∧ (ref = (fds f).1 ∨ Cond.sameField ref (fds f).1 (fds f).2.1 (fds f).2.2.1 ∈ lw_all)
theorem FL.own {M : MR} {idx f : Nat} (h : Cond.fieldLink (My M).cls idx (fds f).1 (fds f).2.1 (fds f).2.2.1 ∈ lw_all) : FL M idx f := ⟨_, h, Or.inl rfl⟩
theorem FL.up {M : MR} {idx f : Nat} {ref : String} (h : Cond.fieldLink (My M).cls idx ref (fds f).2.1 (fds f).2.2.1 ∈ lw_all) (h2 : Cond.sameField ref (fds f).1 (fds f).2.1 (fds f).2.2.1 ∈ lw_all) : FL M idx f := ⟨_, h, Or.inr h2⟩
/-- an object of the small heap, with its class -/
theorem Rel.obj {G : GG} {h : Hp} {H : Heap} (r : Rel G h H) {a c f : Nat} (hk : Kd h a = c) (hf : hasF c f = true) : ∃ (C : String) (T : u_T) (N k : Nat), vwCl[c - 1]? = some (C, T, N) ∧ va_at (GD G) vwCl (a, .inr (c - 1, encO h a)) H ∧ ClF c (C, T, N) ∧ (flds c)[k]? = some f ∧ k < N ∧ T k = fds f ∧ parseFieldDescriptor (T k).2.2.1 = some (fdt f) ∧ (encO h a)[k]? = some (fval h f a) ∧ c < 100 ∧ c ≠ 0 := by
  have hm := hasF_mem hf
  obtain ⟨hc1, hc0⟩ := flds_fds c f hm
  have hat := (r.2.2.2.1 a (by rw [hk]; exact hc0) (by rw [hk]; omega)).2
  rw [enc_obj (by rw [hk]; exact hc1), hk] at hat
  obtain ⟨⟨C, T, N⟩, hr, hrest⟩ := id hat
  have hcl := clF (c - 1) _ hr
  rw [show c - 1 + 1 = c by omega] at hcl
  obtain ⟨k, hkk⟩ := List.getElem?_of_mem hm
  have hkN : k < N := by
    have := (List.getElem?_eq_some_iff.mp hkk).1
    have e := hcl.2.1
    simp only at e
    omega
  have e9 : (flds c).getD k 0 = f := by simp [List.getD, hkk]
  refine ⟨C, T, N, k, hr, hat, hcl, hkk, hkN, ?_, ?_, ?_, hc1, hc0⟩
  · have := hcl.2.2.1 k hkN
    rw [e9] at this
    exact this
  · have := hcl.2.2.2.1 k hkN
    rw [e9] at this
    exact this
  · unfold encO
    rw [hk, List.getElem?_map, hkk]
    rfl
theorem fval_I {h : Hp} {f a : Nat} (ht : fty f = 0) : fval h f a = .int (Fi h f a) := by simp [fval, ht]
theorem fval_L {h : Hp} {f a : Nat} (ht : fty f = 1) : fval h f a = .long (Fl h f a) := by simp [fval, ht]
theorem fval_R {h : Hp} {f a : Nat} (ht : fty f = 2) : fval h f a = va_rf (Fr h f a) := by simp [fval, ht]
section Mem
variable {M : MR} {pc : Nat}
theorem WW.get {G : GG} {R : Room} {h0 : Hp} {O : Option Value → Hp → Prop} {OX : Nat → Nat → Hp → Prop} {l st : List Value} {h : Hp} {bc bs a c f idx : Nat} (hl : FL M idx f) (hd : decode (Mc M) pc = .ok (.getfield idx, 3)) (hk : Kd h a = c) (hf : hasF c f = true)
    (k : WW G M R h0 O OX (pc + 3) l (fval h f a :: st) h bc bs) : WW G M R h0 O OX pc l (.ref a :: st) h bc bs := by
  intro p e s m args below meth cd ZZ F hRt hTt H locs cells slots ls hR hG hS hL h1 h2
  obtain ⟨C, T, N, j, hr, hat, hcl, hj, hjN, hT, hty, hv, hc1, hc0⟩ := hR.obj hk hf
  obtain ⟨ref, hlink, hsame⟩ := hl
  have hcl1 : ∀ w ∈ u_ws C T N, w ∈ lw_all := hcl.1
  refine va_get (C := C) (T := T) (N := N) F.hx F.hb F.ts hcl1 F.own F.K (va_P1 hat) 0 rfl hr j hjN (ref := ref) (by rw [hT]; exact F.ts _ hlink) ?_ hv hd (k p e s m args below meth cd ZZ F hRt hTt H locs cells slots ls hR hG hS hL h1 h2)
  rw [hT]
  intro x hx
  rcases hsame with e1 | hsame
  · rw [e1]; exact hx
  · exact u_same (F.ts _ hsame) x hx
def i_getI (f : Nat) : Tr := fun _ _ _ _ _ k l st h bc bs => match st with
  | .ref a :: r => ∃ c, Kd h a = c ∧ hasF c f = true ∧ k l (.int (Fi h f a) :: r) h bc bs
  | _ => False
def i_getL (f : Nat) : Tr := fun _ _ _ _ _ k l st h bc bs => match st with
  | .ref a :: r => ∃ c, Kd h a = c ∧ hasF c f = true ∧ k l (.long (Fl h f a) :: r) h bc bs
  | _ => False
def i_getR (f : Nat) : Tr := fun _ _ _ _ _ k l st h bc bs => match st with
  | .ref a :: r => ∃ c v, Kd h a = c ∧ hasF c f = true ∧ Fr h f a = v ∧ k l (va_rf v :: r) h bc bs
  | _ => False
theorem s_getI {f idx : Nat} (hd : decode (Mc M) pc = .ok (.getfield idx, 3)) (hl : FL M idx f) (ht : fty f = 0) : Snd M pc (pc + 3) (i_getI f) := by
  intro G R d h0 O OX kn _ _ hk l st h bc bs hi
  unfold i_getI at hi
  split at hi
  · obtain ⟨c, e1, e2, e3⟩ := hi
    refine WW.get hl hd e1 e2 ?_
    rw [fval_I ht]
    exact hk _ _ _ _ _ e3
  · exact hi.elim
theorem s_getL {f idx : Nat} (hd : decode (Mc M) pc = .ok (.getfield idx, 3)) (hl : FL M idx f) (ht : fty f = 1) : Snd M pc (pc + 3) (i_getL f) := by
  intro G R d h0 O OX kn _ _ hk l st h bc bs hi
  unfold i_getL at hi
  split at hi
  · obtain ⟨c, e1, e2, e3⟩ := hi
    refine WW.get hl hd e1 e2 ?_
    rw [fval_L ht]
    exact hk _ _ _ _ _ e3
  · exact hi.elim
theorem s_getR {f idx : Nat} (hd : decode (Mc M) pc = .ok (.getfield idx, 3)) (hl : FL M idx f) (ht : fty f = 2) : Snd M pc (pc + 3) (i_getR f) := by
  intro G R d h0 O OX kn _ _ hk l st h bc bs hi
  unfold i_getR at hi
  split at hi
  · obtain ⟨c, v, e1, e2, e3, e4⟩ := hi
    refine WW.get hl hd e1 e2 ?_
    rw [fval_R ht, e3]
    exact hk _ _ _ _ _ e4
  · exact hi.elim
/-- a final field is written by a constructor of its own class alone -/
def Fin9 (M : MR) (f : Nat) : Prop := (fds f).2.2.2 = false ∨ ((fds f).2.2.2 = true ∧ (My M).name = "<init>" ∧ (fds f).1 = (My M).cls)
theorem WW.put {G : GG} {R : Room} {h0 : Hp} {O : Option Value → Hp → Prop} {OX : Nat → Nat → Hp → Prop} {l st : List Value} {h h' : Hp} {bc bs a c f idx : Nat} {v : Value} (hl : FL M idx f) (hfin : Fin9 M f) (hd : decode (Mc M) pc = .ok (.putfield idx, 3)) (hk : Kd h a = c) (hf : hasF c f = true)
    (hn : narrow (fdt f) v = v) (hfit : fits (fdt f) v = true) (e1 : Kd h' = Kd h) (e2 : Ln h' = Ln h) (e3 : Nx h' = Nx h) (e4 : ∀ q, Ai h' q = Ai h q) (e5 : ∀ q, q ≠ a → enc G h' q = enc G h q) (hv : fval h' f a = v) (hne : ∀ g, g ≠ f → fval h' g a = fval h g a)
    (k : WW G M R h0 O OX (pc + 3) l st h' bc bs) : WW G M R h0 O OX pc l (v :: .ref a :: st) h bc bs := by
  intro p e s m args below meth cd ZZ F hRt hTt H locs cells slots ls hR hG hS hL h1 h2
  obtain ⟨C, T, N, j, hr, hat, hcl, hj, hjN, hT, hty, hvv, hc1, hc0⟩ := hR.obj hk hf
  obtain ⟨ref, hlink, hsame⟩ := hl
  have hk0 : Kd h a ≠ 0 := by rw [hk]; exact hc0
  have hk9 : Kd h a ≠ 999 := by rw [hk]; omega
  have hcl1 : ∀ w ∈ u_ws C T N, w ∈ lw_all := hcl.1
  have hcl2 : ∀ k, k < N → parseFieldDescriptor (T k).2.2.1 = some (fdt ((flds c).getD k 0)) := hcl.2.2.2.1
  have hcl3 : ∀ a, a < N → ∀ b, b < N → a ≠ b → (T a).2.1 ≠ (T b).2.1 := hcl.2.2.2.2.1
  refine row_put (C := C) (T := T) (N := N) F.hx F.hb F.ts hcl1 _ hcl2 hcl3 F.own F.K hat hr j hjN (ref := ref) (by rw [hT]; exact F.ts _ hlink) ?_ ?_ hty hn hfit (List.getElem?_eq_some_iff.mp hvv).1 hd (fun H1 i g1 g2 g3 => ?_)
  · rw [hT]
    intro x hx
    rcases hsame with e1 | hsame
    · rw [e1]; exact hx
    · exact u_same (F.ts _ hsame) x hx
  · rw [hT]
    rcases hfin with q | ⟨q1, q2, q3⟩
    · exact Or.inl q
    · refine Or.inr ⟨q1, ?_, q3⟩
      have := (F.2.2.2.2.2.2.2.2.2.2.1 (by rw [q2]; decide)).1
      rw [this, q2]
  · refine k p e s m args below meth cd ZZ F hRt hTt H1 _ cells slots ls ?_ (hG.tr (Gro.same e1 e3)) (hS.put g2 g3 (hG.fre (Or.inl ⟨hk0, hk9⟩))) hL h1 h2
    refine hR.one hk0 hk9 g2 g3 e1 e2 e3 e5 ?_ (fun q _ => e4 q)
    rw [enc_obj (by rw [e1, hk]; exact hc1), e1, encO_set e1 (by rw [hk]; exact hj) hv hne, hk]
    exact g1
def i_putI (f : Nat) : Tr := fun _ _ _ _ _ k l st h bc bs => match st with
  | .int v :: .ref a :: r => ∃ c, Kd h a = c ∧ hasF c f = true ∧ k l r (sFi h f a v) bc bs
  | _ => False
def i_putZ (f : Nat) : Tr := fun _ _ _ _ _ k l st h bc bs => match st with
  | .int v :: .ref a :: r => ∃ c, Kd h a = c ∧ hasF c f = true ∧ (v = 0 ∨ v = 1) ∧ k l r (sFi h f a v) bc bs
  | _ => False
def i_putL (f : Nat) : Tr := fun _ _ _ _ _ k l st h bc bs => match st with
  | .long v :: .ref a :: r => ∃ c, Kd h a = c ∧ hasF c f = true ∧ k l r (sFl h f a v) bc bs
  | _ => False
def i_putR (f : Nat) : Tr := fun _ _ _ _ _ k l st h bc bs => match st with
  | .ref v :: .ref a :: r => ∃ c, Kd h a = c ∧ hasF c f = true ∧ k l r (sFr h f a (some v)) bc bs
  | .null :: .ref a :: r => ∃ c, Kd h a = c ∧ hasF c f = true ∧ k l r (sFr h f a none) bc bs
  | _ => False
theorem enc_sFi {G : GG} {h : Hp} {f a q : Nat} {v : Int32} (hq : q ≠ a) : enc G (sFi h f a v) q = enc G h q := enc_ne_F rfl rfl rfl rfl rfl (fun g => fval_sFi_ne (fun z => hq z.2))
theorem enc_sFl {G : GG} {h : Hp} {f a q : Nat} {v : Int64} (hq : q ≠ a) : enc G (sFl h f a v) q = enc G h q := enc_ne_F rfl rfl rfl rfl rfl (fun g => fval_sFl_ne (fun z => hq z.2))
theorem enc_sFr {G : GG} {h : Hp} {f a q : Nat} {v : Option Nat} (hq : q ≠ a) : enc G (sFr h f a v) q = enc G h q := enc_ne_F rfl rfl rfl rfl rfl (fun g => fval_sFr_ne (fun z => hq z.2))
theorem s_putI {f idx : Nat} (hd : decode (Mc M) pc = .ok (.putfield idx, 3)) (hl : FL M idx f) (ht : fty f = 0) (ht2 : fdt f = .int) (hfin : Fin9 M f) : Snd M pc (pc + 3) (i_putI f) := by
  intro G R d h0 O OX kn _ _ hk l st h bc bs hi
  unfold i_putI at hi
  split at hi
  · rename_i v a r
    obtain ⟨c, e1, e2, e3⟩ := hi
    exact WW.put (h' := sFi h f a v) (v := .int v) hl hfin hd e1 e2 (by rw [ht2]; rfl) (by rw [ht2]; rfl) rfl rfl rfl (fun _ => rfl) (fun q hq => enc_sFi hq) (fval_sFi_self ht) (fun g hg => fval_sFi_ne (fun z => hg z.1)) (hk _ _ _ _ _ e3)
  · exact hi.elim
theorem s_putZ {f idx : Nat} (hd : decode (Mc M) pc = .ok (.putfield idx, 3)) (hl : FL M idx f) (ht : fty f = 0) (ht2 : fdt f = .boolean) (hfin : Fin9 M f) : Snd M pc (pc + 3) (i_putZ f) := by
  intro G R d h0 O OX kn _ _ hk l st h bc bs hi
  unfold i_putZ at hi
  split at hi
  · rename_i v a r
    obtain ⟨c, e1, e2, e4, e3⟩ := hi
    exact WW.put (h' := sFi h f a v) (v := .int v) hl hfin hd e1 e2 (by rw [ht2]; rcases e4 with rfl | rfl <;> rfl) (by rw [ht2]; rcases e4 with rfl | rfl <;> rfl) rfl rfl rfl (fun _ => rfl) (fun q hq => enc_sFi hq) (fval_sFi_self ht) (fun g hg => fval_sFi_ne (fun z => hg z.1)) (hk _ _ _ _ _ e3)
  · exact hi.elim
theorem s_putL {f idx : Nat} (hd : decode (Mc M) pc = .ok (.putfield idx, 3)) (hl : FL M idx f) (ht : fty f = 1) (ht2 : fdt f = .long) (hfin : Fin9 M f) : Snd M pc (pc + 3) (i_putL f) := by
  intro G R d h0 O OX kn _ _ hk l st h bc bs hi
  unfold i_putL at hi
  split at hi
  · rename_i v a r
    obtain ⟨c, e1, e2, e3⟩ := hi
    exact WW.put (h' := sFl h f a v) (v := .long v) hl hfin hd e1 e2 (by rw [ht2]; rfl) (by rw [ht2]; rfl) rfl rfl rfl (fun _ => rfl) (fun q hq => enc_sFl hq) (fval_sFl_self ht) (fun g hg => fval_sFl_ne (fun z => hg z.1)) (hk _ _ _ _ _ e3)
  · exact hi.elim
theorem s_putR {f idx : Nat} (hd : decode (Mc M) pc = .ok (.putfield idx, 3)) (hl : FL M idx f) (ht : fty f = 2) (ht2 : (∃ n, fdt f = .object n) ∨ ∃ n, fdt f = .array n) (hfin : Fin9 M f) : Snd M pc (pc + 3) (i_putR f) := by
  intro G R d h0 O OX kn _ _ hk l st h bc bs hi
  unfold i_putR at hi
  split at hi
  · rename_i v a r
    obtain ⟨c, e1, e2, e3⟩ := hi
    exact WW.put (h' := sFr h f a (some v)) (v := .ref v) hl hfin hd e1 e2 (by rcases ht2 with ⟨n, e⟩ | ⟨n, e⟩ <;> rw [e] <;> rfl) (by rcases ht2 with ⟨n, e⟩ | ⟨n, e⟩ <;> rw [e] <;> rfl) rfl rfl rfl (fun _ => rfl) (fun q hq => enc_sFr hq) (fval_sFr_self ht) (fun g hg => fval_sFr_ne (fun z => hg z.1)) (hk _ _ _ _ _ e3)
  · rename_i a r
    obtain ⟨c, e1, e2, e3⟩ := hi
    exact WW.put (h' := sFr h f a none) (v := .null) hl hfin hd e1 e2 (by rcases ht2 with ⟨n, e⟩ | ⟨n, e⟩ <;> rw [e] <;> rfl) (by rcases ht2 with ⟨n, e⟩ | ⟨n, e⟩ <;> rw [e] <;> rfl) rfl rfl rfl (fun _ => rfl) (fun q hq => enc_sFr hq) (fval_sFr_self ht) (fun g hg => fval_sFr_ne (fun z => hg z.1)) (hk _ _ _ _ _ e3)
  · exact hi.elim
end Mem
