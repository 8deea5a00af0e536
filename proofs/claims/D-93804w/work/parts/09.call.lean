set_option maxRecDepth 100000
/-! calls -/
def cAs (n : Nat) (st : List Value) : List Value := (st.take n).reverse
def catS (l : List Value) : Nat := (l.map fun v => v.category).sum
abbrev XX : Type := Nat × Nat × Nat × (Option Value → Hp → Prop) × (Nat → Nat → Hp → Prop)
def CB (G : GG) (d : Nat) (T : TT) (k : KK) (M' : MR) (args rest l : List Value) (h : Hp) (bc bs pc n : Nat) (x : XX) : Prop :=
  args.length = n ∧ x.1 < d ∧ x.2.1 ≤ bc ∧ x.2.2.1 ≤ bs ∧ catS rest ≤ 8 ∧ Ct G M' x.1 x.2.1 x.2.2.1 args h x.2.2.2.1 x.2.2.2.2 ∧ (∀ r h', x.2.2.2.1 r h' → k l (r.toList ++ rest) h' (bc - x.2.1) (bs - x.2.2.1)) ∧ ∀ e q h', 1 ≤ e → e ≤ 4 → x.2.2.2.2 e q h' → T pc e q l h' (bc - x.2.1) (bs - x.2.2.1)
def i_call (pc : Nat) (M' : MR) (n : Nat) : Tr := fun G d _ _ T k l st h bc bs => ∃ x : XX, CB G d T k M' (cAs n st) (st.drop n) l h bc bs pc n x
def i_calli (pc : Nat) (M' : MR) (n : Nat) : Tr := fun G d _ _ T k l st h bc bs => match cAs n st with
  | .ref b :: As => ∃ x : XX, CB G d T k M' (.ref b :: As) (st.drop n) l h bc bs pc n x
  | _ => False
def VB (G : GG) (d : Nat) (T : TT) (k : KK) (vs : Nat → Option MR) (b : Nat) (args rest l : List Value) (h : Hp) (bc bs pc n : Nat) (z : Nat × MR × XX) : Prop := Kd h b = z.1 ∧ vs z.1 = some z.2.1 ∧ CB G d T k z.2.1 args rest l h bc bs pc n z.2.2
def i_callv (pc : Nat) (vs : Nat → Option MR) (n : Nat) : Tr := fun G d _ _ T k l st h bc bs => match cAs n st with
  | .ref b :: As => ∃ z : Nat × MR × XX, VB G d T k vs b (.ref b :: As) (st.drop n) l h bc bs pc n z
  | _ => False
theorem cAs_split (n : Nat) (st : List Value) : st = (cAs n st).reverse ++ st.drop n := by simp [cAs]
section Ivk
variable {p : Program} {e : Env} {R : Room} {s : State} {m : MethodId} {args : Array Value} {below : List Frame} {meth : Method} {c : Code} {H : Heap} {locs : List Loc} {cells slots : Nat} {Q : State → Prop}
theorem inv_go {G : GG} {h h0 : Hp} {O : Option Value → Hp → Prop} {OX : Nat → Nat → Hp → Prop} {a : Array Value} {mc ms pc : Nat} {ls : Array Slot} {st0 rest : List Value} (hr : vx_Run p (Gl G) e R s m args below meth c H locs cells slots mc ms (F0 m pc ls st0) rest (QcC G h O a) (XcC G h OX) (Fre h)) (hS : va_S (Fre h0) s.heap H locs) (hG : Gro h0 h)
    (kr : ∀ (r : Option Value) (h' : Hp) (H1 : Heap) (locs1 : List Loc), O r h' → Rel G h' H1 → Gro h h' → va_S (Fre h0) s.heap H1 locs1 → W p (Gl G) e R s m args below meth c H1 locs1 (cells + mc) (slots + ms) Q (F0 m (pc + 3) ls (r.toList ++ rest)))
    (kx : ∀ (ex : Nat) (q : Addr) (ce : Cell) (h' : Hp) (H1 : Heap) (locs1 : List Loc), 1 ≤ ex → ex ≤ 4 → OX ex q h' → Rel G h' H1 → Gro h h' → va_S (Fre h0) s.heap H1 locs1 → H1[q]? = some ce → ce.vm = .none → s.vm.findClass (exN ex) = some ce.cls → vx_W p (Gl G) e R s m args below meth c H1 locs1 (cells + mc) (slots + ms) Q (F0 m pc ls rest) q) :
    W p (Gl G) e R s m args below meth c H locs cells slots Q (F0 m pc ls st0) := by
  intro T hT X
  rcases hr T hT X with ⟨v, st₀, t, T', L, g0, X', hL, e1, e2, ⟨⟨r9, h', hv, hO, hRel, hGr⟩, hF⟩, st⟩ | ⟨q, st₀, t, T', L, E, ce, g0, X', hL, e1, e2, ⟨⟨ex, h', rfl, ⟨hx1, hx2⟩, hO, hRel, hGr⟩, hF⟩, hce, hcv, hcl, st⟩
  · cases hv
    obtain ⟨-, -, k3⟩ := vx_keep g0 e1 hS (fun q _ z => hG.fre z) (fun q z => hG.fre z) hL hF
    obtain ⟨t2, a1, b1⟩ := kr _ h' T'.heap (locs ++ L) hO (by rw [e1]; exact hRel) hGr k3 T' rfl X'
    exact ⟨t2, st t2 a1, b1⟩
  · obtain ⟨-, -, k3⟩ := vx_keep g0 e1 hS (fun q _ z => hG.fre z) (fun q z => hG.fre z) hL hF
    obtain ⟨t2, a1, b1⟩ := kx ex q ce h' T'.heap (locs ++ L) hx1 hx2 hO (by rw [e1]; exact hRel) hGr k3 (by rw [e1]; exact hce) hcv hcl T' rfl X'
    exact ⟨t2, st.trans a1, b1⟩
end Ivk
theorem hnd_some : ∀ (rows : List (Nat × Nat × Nat × Nat × Nat)) (pc e tgt : Nat), hnd rows pc e = some tgt → ∃ pre r suf, rows = pre ++ r :: suf ∧ r.2.2.1 = tgt ∧ cvr r pc e = true ∧ ∀ z ∈ pre, cvr z pc e = false
  | [], pc, e, tgt, h => by cases h
  | r :: rs, pc, e, tgt, h => by
    unfold hnd at h
    split at h
    · rename_i hc
      exact ⟨[], r, rs, rfl, Option.some.inj h, hc, fun z hz => by cases hz⟩
    · rename_i hc
      obtain ⟨pre, r', suf, h1, h2, h3, h4⟩ := hnd_some rs pc e tgt h
      refine ⟨r :: pre, r', suf, by rw [h1]; rfl, h2, h3, fun z hz => ?_⟩
      rcases List.mem_cons.mp hz with rfl | hz
      · simpa using hc
      · exact h4 z hz
theorem hnd_none : ∀ (rows : List (Nat × Nat × Nat × Nat × Nat)) (pc e : Nat), hnd rows pc e = none → ∀ z ∈ rows, cvr z pc e = false
  | [], pc, e, h => fun z hz => by cases hz
  | r :: rs, pc, e, h => by
    unfold hnd at h
    split at h
    · cases h
    · rename_i hc
      intro z hz
      rcases List.mem_cons.mp hz with rfl | hz
      · simpa using hc
      · exact hnd_none rs pc e h z hz
theorem cvr_pass {M : MR} {G : GG} {h0 : Hp} {p : Program} {R : Room} {s : State} {m : MethodId} {args : Array Value} {meth : Method} {c : Code} (F : Fm G M h0 p R s m args meth c) (hok : MOk M) {pc ex : Nat} (h1 : 1 ≤ ex) (h2 : ex ≤ 4) {r : Nat × Nat × Nat × Nat × Nat} (hr : r ∈ Mh M) (hc : cvr r pc ex = false) :
    covers ⟨r.1, r.2.1, r.2.2.1, r.2.2.2.1⟩ pc = false ∨ (r.2.2.2.1 ≠ 0 ∧ ∃ nm : String, (Cond.classLink (My M).cls r.2.2.2.1 nm).before args s = true ∧ va_Nc (exN ex) nm s) := by
  obtain ⟨k1, k2, k3, k4⟩ := hok.2.2.2.2.2 r hr
  by_cases hcv : covers ⟨r.1, r.2.1, r.2.2.1, r.2.2.2.1⟩ pc = true
  · right
    refine ⟨k2, _, F.ts _ k1, ?_⟩
    have hcat : catches ex r.2.2.2.2 = false := by
      have : decide (r.1 ≤ pc) = true ∧ decide (pc < r.2.1) = true := by simpa [covers] using hcv
      unfold cvr at hc
      rw [this.1, this.2] at hc
      simpa using hc
    exact va_Nc.moved F.warm.alike (F.hy.2.2.2.2.2.1 ex _ h1 h2 k3 k4 hcat)
  · left
    simpa using hcv
theorem ThC.go {M : MR} {G : GG} {h0 : Hp} {O : Option Value → Hp → Prop} {OX : Nat → Nat → Hp → Prop} {p : Program} {e : Env} {R : Room} {s : State} {m : MethodId} {args : Array Value} {below : List Frame} {meth : Method} {c : Code} {ZZ : State → Prop} {H : Heap} {locs : List Loc} {cells slots : Nat} {ls : Array Slot} {l rest : List Value} {h : Hp} {bc bs pc ex q : Nat} {ce : Cell}
    (hokM : (My M).name ≠ "law" → MOk M) (F : Fm G M h0 p R s m args meth c) (hRt : RHd G M R h0 O p e s m args below meth c ZZ) (hTt : THd G M R h0 OX p e s m args below meth c ZZ) (hR : Rel G h H) (hG : Gro h0 h) (hS : va_S (Fre h0) s.heap H locs) (hL : LH ls (Ml M) l) (h1 : cells + bc ≤ R.cells) (h2 : slots + bs ≤ R.slots)
    (hx1 : 1 ≤ ex) (hx2 : ex ≤ 4) (hce : H[q]? = some ce) (hcv : ce.vm = .none) (hcl : s.vm.findClass (exN ex) = some ce.cls) (ht : ThC G M R h0 O OX pc ex q l h bc bs) : vx_W p (Gl G) e R s m args below meth c H locs cells slots ZZ (F0 m pc ls rest) q := by
  unfold ThC at ht
  obtain ⟨hnl, ht⟩ := ht
  have hok := hokM hnl
  have htab := (F.2.2.2.2.2.2.2.2.2.2.1 hnl).2
  cases hn : hnd (Mh M) pc ex with
  | none =>
    rw [hn] at ht
    refine hTt ex q ce h H locs cells slots pc ls rest hx1 hx2 ht hR hG hS (by omega) (by omega) (fun z hz => ?_) hce hcv hcl
    rw [htab] at hz
    simp only [tableOf, Mhh, List.map_map, List.mem_map, Function.comp] at hz
    obtain ⟨r, hr, rfl⟩ := hz
    exact cvr_pass F hok hx1 hx2 hr (hnd_none _ _ _ hn r hr)
  | some tgt =>
    rw [hn] at ht
    obtain ⟨pre, r, suf, g1, g2, g3, g4⟩ := hnd_some _ _ _ _ hn
    have hr : r ∈ Mh M := by rw [g1]; simp
    obtain ⟨k1, k2, k3, k4⟩ := hok.2.2.2.2.2 r hr
    have hcv2 : (decide (r.1 ≤ pc) = true ∧ decide (pc < r.2.1) = true) ∧ catches ex r.2.2.2.2 = true := by
      unfold cvr at g3
      simpa using g3
    have hcast : va_Nw (.castable (exN ex) (exN r.2.2.2.2)) s := va_Nw.warmC F.warm (F.hy.2.2.2.2.1 ex _ hx1 hx2 k3 k4 hcv2.2)
    have kk := ht p e s m args below meth c ZZ F hRt hTt H locs cells slots ls hR hG hS hL h1 h2
    subst g2
    refine vx_catch F.own (tableOf (pre.map (fun r => (r.1, r.2.1, r.2.2.1, r.2.2.2.1)))) ⟨r.1, r.2.1, r.2.2.1, r.2.2.2.1⟩ (tableOf (suf.map (fun r => (r.1, r.2.1, r.2.2.1, r.2.2.2.1)))) ?_ (fun z hz => ?_) ?_ k2 (F.ts _ k1) (va_Nw.use rfl hcast) hce hcv hcl kk
    · rw [htab, Mhh, g1]
      simp [tableOf]
    · simp only [tableOf, List.map_map, List.mem_map, Function.comp] at hz
      obtain ⟨z', hz', rfl⟩ := hz
      exact cvr_pass F hok hx1 hx2 (by rw [g1]; simp [hz']) (g4 z' hz')
    · simpa [covers] using hcv2.1
theorem fBlind {G : GG} {h : Hp} {As : List Value} : FrameBlind (va_Pc As (fun U => Rel G h U.heap ∧ (G0 G).WarmedH U.vm)) := fun _ _ _ _ q => ⟨q.1, q.2.1, q.2.2⟩
theorem Mws_good {M : MR} (hok : MOk M) : GoodIn lw_all (Mws M) := lw_good (fun w hw => by
  rcases List.mem_cons.mp hw with rfl | h
  · exact hok.1
  · exact h)
theorem Mw_code {M : MR} (h : (Mh M).isEmpty = true) : Mw M = .code (My M) (Mc M) (Ml M) (Mr M) := by unfold Mw; rw [if_pos h]
theorem Mw_codeW {M : MR} (h : ¬ (Mh M).isEmpty = true) : Mw M = .codeWith (My M) (Mc M) (Ml M) (Mr M) (Mhh M) := by unfold Mw; rw [if_neg h]
section Cl
variable {M : MR} {pc : Nat}
theorem par_of {desc : String} {n : Nat} (h : (parseMethodDescriptor desc).map (fun d => d.parameters.length) = some n) : ∀ sig, parseMethodDescriptor desc = some sig → n = sig.parameters.length := fun sig h9 => by
  rw [h9] at h
  exact (Option.some.inj h).symm
/-- the common part of the calls -/
theorem CB.go {G : GG} {R : Room} {d : Nat} {h0 : Hp} {O : Option Value → Hp → Prop} {OX : Nat → Nat → Hp → Prop} {kn : KK} {M' : MR} {as rest l : List Value} {h : Hp} {bc bs n : Nat} {x : XX} {p : Program} {e : Env} {s : State} {m : MethodId} {args : Array Value} {below : List Frame} {meth : Method} {cd : Code} {ZZ : State → Prop} {H : Heap} {locs : List Loc} {cells slots : Nat} {ls : Array Slot} {st : List Value}
    (hokM : (My M).name ≠ "law" → MOk M)
    (hkn : ∀ l st h bc bs, kn l st h bc bs → WW G M R h0 O OX (pc + 3) l st h bc bs) (hx : CB G d (ThC G M R h0 O OX) kn M' as rest l h bc bs pc n x)
    (F : Fm G M h0 p R s m args meth cd) (hRt : RHd G M R h0 O p e s m args below meth cd ZZ) (hTt : THd G M R h0 OX p e s m args below meth cd ZZ) (hG : Gro h0 h) (hS : va_S (Fre h0) s.heap H locs) (hL : LH ls (Ml M) l) (h1 : cells + bc ≤ R.cells) (h2 : slots + bs ≤ R.slots)
    (hr : vx_Run p (Gl G) e R s m args below meth cd H locs cells slots x.2.1 x.2.2.1 (F0 m pc ls st) rest (QcC G h x.2.2.2.1 as.toArray) (XcC G h x.2.2.2.2) (Fre h)) : W p (Gl G) e R s m args below meth cd H locs cells slots ZZ (F0 m pc ls st) := by
  obtain ⟨x0, x1, x2, x3, x4, x5, x6, x7⟩ := hx
  refine inv_go hr hS hG (fun r h' H1 locs1 hO hRel hGr hS1 => ?_) (fun ex q ce h' H1 locs1 hx1 hx2 hO hRel hGr hS1 hce hcv hcl => ?_)
  · exact hkn _ _ _ _ _ (x6 r h' hO) p e s m args below meth cd ZZ F hRt hTt H1 locs1 (cells + x.2.1) (slots + x.2.2.1) ls hRel (hG.tr hGr) hS1 hL (by omega) (by omega)
  · exact ThC.go hokM F hRt hTt hRel (hG.tr hGr) hS1 hL (bc := bc - x.2.1) (bs := bs - x.2.2.1) (by omega) (by omega) hx1 hx2 hce hcv hcl (x7 ex q h' hx1 hx2 hO)
theorem CB.room {d d' : Nat} {R : Room} (hf : R.frames = 20 + d) (hl : R.locals = 10400 + 64 * d) (h : d' < d) {maxL mc ms : Nat} (hm : maxL ≤ 45) : (rmO d' mc ms).frames + 1 ≤ R.frames ∧ 8 + (maxL + 11) + (rmO d' mc ms).locals ≤ R.locals := by
  simp only [rmO]
  omega
theorem s_calls {M' : MR} {idx n : Nat} (hokM : (My M).name ≠ "law" → MOk M) (hd : decode (Mc M) pc = .ok (.invokestatic idx, 3)) (hok : MOk M') (hw1 : Cond.methodLink (My M).cls idx (My M') ∈ lw_all) (hw2 : Cond.static (My M') ∈ lw_all) (hn : (parseMethodDescriptor (My M').desc).map (fun d => d.parameters.length) = some n) : Snd M pc (pc + 3) (i_call pc M' n) := by
  intro G R d h0 O OX kn hf hl hkn l st h bc bs hi
  obtain ⟨x, hx⟩ := hi
  intro p e s m args below meth cd ZZ F hRt hTt H locs cells slots ls hR hG hS hL h1 h2
  have hx' := hx
  obtain ⟨hlen, x1, x2, x3, x4, x5, x6, x7⟩ := hx
  have hrm := CB.room (mc := x.2.1) (ms := x.2.2.1) hf hl x1 hok.2.2.2.2.1
  have hP : PreS s H (va_Pc (cAs n st) (fun U => Rel G h U.heap ∧ (G0 G).WarmedH U.vm)) (cAs n st) := ⟨fBlind, fun U hU hW => ⟨rfl, by rw [hU]; exact hR, State.WarmedH.trans F.warm hW⟩⟩
  refine CB.go hokM hkn hx' F hRt hTt hG hS hL h1 h2 ?_
  by_cases hem : (Mh M').isEmpty = true
  · exact vx_runS (l := Gl G) (own := (My M).cls) (bytes := Mc M') (maxL := Ml M') (ret := Mr M') (n := n) ⟨F.hx, F.hb, F.hml, F.own, F.ts⟩ (x5 F.hy) ⟨⟨rfl, rfl, hrm.1, hrm.2, pay_in F.ts (Mws_good hok), by rw [← Mw_code hem]; exact List.mem_cons_self, by rw [← Mw_code hem]; exact F.ts _ hok.1, F.ts _ hok.2.1, hok.2.2.2.1, par_of hn, F.ts _ hw1⟩, F.ts _ hw2⟩ hP rfl hlen hL.1 (cAs_split n st) (lv_room x4) hd ⟨by omega, by omega⟩
  · exact vx_runSX (l := Gl G) (own := (My M).cls) (bytes := Mc M') (maxL := Ml M') (ret := Mr M') (n := n) (hh := Mhh M') ⟨F.hx, F.hb, F.hml, F.own, F.ts⟩ (x5 F.hy) ⟨⟨rfl, rfl, hrm.1, hrm.2, pay_in F.ts (Mws_good hok), by rw [← Mw_codeW hem]; exact List.mem_cons_self⟩, by rw [← Mw_codeW hem]; exact F.ts _ hok.1, F.ts _ hok.2.1, hok.2.2.2.1, par_of hn, F.ts _ hw1, F.ts _ hw2⟩ hP rfl hlen hL.1 (cAs_split n st) (lv_room x4) hd ⟨by omega, by omega⟩
theorem cAs_ref {n b : Nat} {st As : List Value} (h : cAs n st = .ref b :: As) : st = As.reverse ++ .ref b :: st.drop n := by
  have := cAs_split n st
  rw [h] at this
  simpa using this
theorem s_calli {M' : MR} {idx n : Nat} (hokM : (My M).name ≠ "law" → MOk M) (hd : decode (Mc M) pc = .ok (.invokespecial idx, 3)) (hok : MOk M') (hem : (Mh M').isEmpty = true) (hret : Mr M' = none) (hnm : (My M').name = "<init>") (hw1 : Cond.methodLink (My M).cls idx (My M') ∈ lw_all) (hw2 : Cond.instanceMethod (My M') ∈ lw_all) (hn : (parseMethodDescriptor (My M').desc).map (fun d => d.parameters.length) = some n) : Snd M pc (pc + 3) (i_calli pc M' (n + 1)) := by
  intro G R d h0 O OX kn hf hl hkn l st h bc bs hi
  unfold i_calli at hi
  split at hi
  · rename_i b As hcas
    obtain ⟨x, hx⟩ := hi
    intro p e s m args below meth cd ZZ F hRt hTt H locs cells slots ls hR hG hS hL h1 h2
    have hx' := hx
    obtain ⟨hlen, x1, x2, x3, x4, x5, x6, x7⟩ := hx
    have hrm := CB.room (mc := x.2.1) (ms := x.2.2.1) hf hl x1 hok.2.2.2.2.1
    have hP : PreS s H (va_Pc (.ref b :: As) (fun U => Rel G h U.heap ∧ (G0 G).WarmedH U.vm)) (.ref b :: As) := ⟨fBlind, fun U hU hW => ⟨rfl, by rw [hU]; exact hR, State.WarmedH.trans F.warm hW⟩⟩
    refine CB.go hokM hkn hx' F hRt hTt hG hS hL h1 h2 ?_
    have hmw := Mw_code hem
    rw [hret] at hmw
    exact vx_runI (l := Gl G) (own := (My M).cls) (bytes := Mc M') (maxL := Ml M') (n := n) (As := As) ⟨F.hx, F.hb, F.hml, F.own, F.ts⟩ (x5 F.hy) ⟨⟨rfl, rfl, hrm.1, hrm.2, pay_in F.ts (Mws_good hok), by rw [← hmw]; exact List.mem_cons_self, by rw [← hmw]; exact F.ts _ hok.1, F.ts _ hok.2.1, hok.2.2.2.1, par_of hn, F.ts _ hw1⟩, hnm, F.ts _ hw2⟩ hP rfl (by simpa using hlen) hL.1 (cAs_ref hcas) (lv_room x4) hd ⟨by omega, by omega⟩
  · exact hi.elim
/-- what a virtual call at a place may choose -/
def VOk (own : String) (idx n c : Nat) (M' : MR) : Prop := MOk M' ∧ 1 ≤ c ∧ c < 100 ∧ ∃ r : vw_C, vwCl[c - 1]? = some r ∧
  ((Cond.methodLink own idx (My M') ∈ lw_all ∧ Cond.instanceMethod (My M') ∈ lw_all ∧ Cond.selects r.1 (My M') (My M') ∈ lw_all ∧ (parseMethodDescriptor (My M').desc).map (fun d => d.parameters.length) = some n) ∨
   (∃ (x : MethodName) (owner : String), (Mh M').isEmpty = true ∧ Cond.methodLink own idx x ∈ lw_all ∧ Cond.sameMethod x.cls owner x.name x.desc ∈ lw_all ∧ Cond.selects r.1 x (My M') ∈ lw_all ∧ Cond.instanceMethod (My M') ∈ lw_all ∧ (owner ≠ "java/lang/invoke/MethodHandle" ∧ owner ≠ "java/lang/invoke/VarHandle") ∧ (parseMethodDescriptor x.desc).map (fun d => d.parameters.length) = some n ∧
     ((Cond.instanceMethod ⟨owner, x.name, x.desc⟩ ∈ lw_all ∧ ∃ b0 m0 r0, Cond.code ⟨owner, x.name, x.desc⟩ b0 m0 r0 ∈ lw_all) ∨ Cond.declares ⟨owner, x.name, x.desc⟩ ∈ lw_tbl)))
theorem Rel.recv {G : GG} {h : Hp} {H : Heap} (hR : Rel G h H) {s : State} (hK : va_K (GD G) vwCl (tysG G) s) {b c : Nat} {r : vw_C} (hk : Kd h b = c) (h1 : 1 ≤ c) (h2 : c < 100) (hr : vwCl[c - 1]? = some r) : ∃ cell : Cell, H[b]? = some cell ∧ cell.vm.isStatics = false ∧ s.vm.findClass r.1 = some cell.cls := by
  have hat := (hR.2.2.2.1 b (by omega) (by omega)).2
  rw [enc_obj (by omega), hk] at hat
  exact va_recv hK (va_P1 hat) hr (q0 := 0) rfl
theorem s_callv {vs : Nat → Option MR} {idx n : Nat} (hokM : (My M).name ≠ "law" → MOk M) (hd : decode (Mc M) pc = .ok (.invokevirtual idx, 3)) (hv : ∀ c M', vs c = some M' → VOk (My M).cls idx n c M') : Snd M pc (pc + 3) (i_callv pc vs (n + 1)) := by
  intro G R d h0 O OX kn hf hl hkn l st h bc bs hi
  unfold i_callv at hi
  split at hi
  · rename_i b As hcas
    obtain ⟨⟨c, M', x⟩, hkb, hvs, hx⟩ := hi
    dsimp only at hkb hvs hx
    obtain ⟨hok, hc1, hc2, r, hr, hvv⟩ := hv c M' hvs
    intro p e s m args below meth cd ZZ F hRt hTt H locs cells slots ls hR hG hS hL h1 h2
    have hx' := hx
    obtain ⟨hlen, x1, x2, x3, x4, x5, x6, x7⟩ := hx
    have hrm := CB.room (mc := x.2.1) (ms := x.2.2.1) hf hl x1 hok.2.2.2.2.1
    have hP : PreV s H r.1 b (va_Pc (.ref b :: As) (fun U => Rel G h U.heap ∧ (G0 G).WarmedH U.vm)) As := ⟨fBlind, hR.recv F.K hkb hc1 hc2 hr, fun U hU hW => ⟨rfl, by rw [hU]; exact hR, State.WarmedH.trans F.warm hW⟩⟩
    refine CB.go hokM hkn hx' F hRt hTt hG hS hL h1 h2 ?_
    rcases hvv with ⟨w1, w2, w3, hn⟩ | ⟨xx, owner, hem, w1, w2, w3, w4, hno, hn, hdec⟩
    · by_cases hem : (Mh M').isEmpty = true
      · exact vx_runV (l := Gl G) (own := (My M).cls) (C := r.1) (bytes := Mc M') (maxL := Ml M') (ret := Mr M') (n := n) (As := As) ⟨F.hx, F.hb, F.hml, F.own, F.ts⟩ (x5 F.hy) ⟨⟨rfl, rfl, hrm.1, hrm.2, pay_in F.ts (Mws_good hok), by rw [← Mw_code hem]; exact List.mem_cons_self, by rw [← Mw_code hem]; exact F.ts _ hok.1, F.ts _ hok.2.1, hok.2.2.2.1, par_of hn, F.ts _ w1⟩, F.ts _ w2, F.ts _ w3⟩ hP rfl (by simpa using hlen) hL.1 (cAs_ref hcas) (lv_room x4) hd ⟨by omega, by omega⟩
      · exact vx_runVX (l := Gl G) (own := (My M).cls) (C := r.1) (bytes := Mc M') (maxL := Ml M') (ret := Mr M') (n := n) (hh := Mhh M') (As := As) ⟨F.hx, F.hb, F.hml, F.own, F.ts⟩ (x5 F.hy) ⟨⟨rfl, rfl, hrm.1, hrm.2, pay_in F.ts (Mws_good hok), by rw [← Mw_codeW hem]; exact List.mem_cons_self⟩, by rw [← Mw_codeW hem]; exact F.ts _ hok.1, F.ts _ hok.2.1, hok.2.2.2.1, par_of hn, F.ts _ w1, F.ts _ w2, F.ts _ w3⟩ hP rfl (by simpa using hlen) hL.1 (cAs_ref hcas) (lv_room x4) hd ⟨by omega, by omega⟩
    · have hdc : va_Decl s ⟨owner, xx.name, xx.desc⟩ := by
        rcases hdec with ⟨q1, b0, m0, r0, q2⟩ | q
        · exact va_Decl.of (F.ts _ q1) (F.ts _ q2)
        · exact va_Decl.abs (va_Nw.warmD F.warm (F.hy.2.2.1 _ q rfl))
      exact vx_runU (l := Gl G) (own := (My M).cls) (C := r.1) (owner := owner) (x := xx) (bytes := Mc M') (maxL := Ml M') (ret := Mr M') (n := n) (As := As) ⟨F.hx, F.hb, F.hml, F.own, F.ts⟩ (x5 F.hy) ⟨⟨rfl, rfl, hrm.1, hrm.2, pay_in F.ts (Mws_good hok), by rw [← Mw_code hem]; exact List.mem_cons_self⟩, by rw [← Mw_code hem]; exact F.ts _ hok.1, F.ts _ hok.2.1, hno, par_of hn, F.ts _ w1, F.ts _ w2, hdc, F.ts _ w3, F.ts _ w4⟩ hP rfl (by simpa using hlen) hL.1 (cAs_ref hcas) (lv_room x4) hd ⟨by omega, by omega⟩
  · exact hi.elim
/-- a method of a class above, named by super -/
def SuOk (own : String) (idx n c : Nat) (M' : MR) : Prop := MOk M' ∧ 1 ≤ c ∧ c < 100 ∧ (∃ r : vw_C, vwCl[c - 1]? = some r) ∧ (Mh M').isEmpty = true ∧ Cond.methodLink own idx (My M') ∈ lw_all ∧ Cond.sameMethod (My M').cls (My M').cls (My M').name (My M').desc ∈ lw_all ∧ Cond.superclass own (My M').cls ∈ lw_all ∧ Cond.instanceMethod (My M') ∈ lw_all ∧ (My M').name ≠ "<init>" ∧ (parseMethodDescriptor (My M').desc).map (fun d => d.parameters.length) = some n
theorem s_callsu {vs : Nat → Option MR} {idx n : Nat} (hokM : (My M).name ≠ "law" → MOk M) (hd : decode (Mc M) pc = .ok (.invokespecial idx, 3)) (hv : ∀ c M', vs c = some M' → SuOk (My M).cls idx n c M') : Snd M pc (pc + 3) (i_callv pc vs (n + 1)) := by
  intro G R d h0 O OX kn hf hl hkn l st h bc bs hi
  unfold i_callv at hi
  split at hi
  · rename_i b As hcas
    obtain ⟨⟨c, M', x⟩, hkb, hvs, hx⟩ := hi
    dsimp only at hkb hvs hx
    obtain ⟨hok, hc1, hc2, ⟨⟨C, T, N⟩, hr⟩, hem, w1, w2, w3, w4, hni, hn⟩ := hv c M' hvs
    intro p e s m args below meth cd ZZ F hRt hTt H locs cells slots ls hR hG hS hL h1 h2
    have hx' := hx
    obtain ⟨hlen, x1, x2, x3, x4, x5, x6, x7⟩ := hx
    have hrm := CB.room (mc := x.2.1) (ms := x.2.2.1) hf hl x1 hok.2.2.2.2.1
    have hP : PreV s H C b (va_Pc (.ref b :: As) (fun U => Rel G h U.heap ∧ (G0 G).WarmedH U.vm)) As := ⟨fBlind, hR.recv F.K hkb hc1 hc2 hr, fun U hU hW => ⟨rfl, by rw [hU]; exact hR, State.WarmedH.trans F.warm hW⟩⟩
    refine CB.go hokM hkn hx' F hRt hTt hG hS hL h1 h2 ?_
    exact vx_runSU (l := Gl G) (own := (My M).cls) (C := C) (bytes := Mc M') (maxL := Ml M') (ret := Mr M') (n := n) (As := As) (F.K.1 _ _ hr).2 ⟨F.hx, F.hb, F.hml, F.own, F.ts⟩ (x5 F.hy) ⟨⟨rfl, rfl, hrm.1, hrm.2, pay_in F.ts (Mws_good hok), by rw [← Mw_code hem]; exact List.mem_cons_self⟩, F.ts _ w1, F.ts _ w2, F.ts _ w3, F.ts _ w4, F.ts _ hok.2.1, by rw [← Mw_code hem]; exact F.ts _ hok.1, hni, par_of hn⟩ hP rfl (by simpa using hlen) hL.1 (cAs_ref hcas) (lv_room x4) hd ⟨by omega, by omega⟩
  · exact hi.elim
def i_objinit : Tr := fun _ _ _ _ _ k l st h bc bs => match st with
  | .ref _ :: r => catS r ≤ 8 ∧ k l r h bc bs
  | _ => False
theorem s_objinit {idx : Nat} (hd : decode (Mc M) pc = .ok (.invokespecial idx, 3)) (hw1 : Cond.methodLink (My M).cls idx Lib.objectInit ∈ lw_all) (hw2 : Cond.instanceMethod Lib.objectInit ∈ lw_all) (hw3 : Cond.code Lib.objectInit ⟨#[0xb1]⟩ 1 none ∈ lw_all) : Snd M pc (pc + 3) i_objinit := by
  intro G R d h0 O OX kn hf hl hkn l st h bc bs hi
  unfold i_objinit at hi
  split at hi
  · rename_i b r
    refine WW.go (l' := l) (st' := r) (nx := pc + 3) (fun p e s m args below meth c ZZ H locs cells slots ls F hx hb hL k => W.objInit hx hb F.own (F.ts _ hw1) (F.ts _ hw2) (F.ts _ hw3) rfl (by rw [F.hml]; exact hL.1) rfl hd (by rw [hf]; omega) (by rw [hl]; have := lv_room (m := m) (pc := pc) (ls := ls) (rest := r) hi.1; simp only [F0, JFrame.monitorRoom] at this ⊢; omega) (k ls hL)) (hkn _ _ _ _ _ hi.2)
  · exact hi.elim
/-- a throw of an object of ours -/
def i_athrow (pc : Nat) : Tr := fun _ _ _ _ T _ l st h bc bs => match st with
  | .ref q :: _ => ∃ e, (Kd h q = 7 ∧ e = 1 ∨ Kd h q = 22 ∧ e = 2) ∧ T pc e q l h bc bs
  | _ => False
theorem s_athrow {nx : Nat} (hokM : (My M).name ≠ "law" → MOk M) (hd : decode (Mc M) pc = .ok (.athrow, 1)) : Snd M pc nx (i_athrow pc) := by
  intro G R d h0 O OX kn hf hl hkn l st h bc bs hi
  unfold i_athrow at hi
  split at hi
  · rename_i q r
    obtain ⟨ex, hk, hT⟩ := hi
    intro p e s m args below meth cd ZZ F hRt hTt H locs cells slots ls hR hG hS hL h1 h2
    refine vx_athrow F.hx F.hb hd ?_
    have key : ∀ (c : Nat) (rr : vw_C), Kd h q = c → 1 ≤ c → c < 100 → vwCl[c - 1]? = some rr → rr.1 = exN ex → 1 ≤ ex → ex ≤ 4 → vx_W p (Gl G) e R s m args below meth cd H locs cells slots ZZ (F0 m pc ls r) q := by
      intro c rr hkc hc1 hc2 hr he hx1 hx2
      have hat := (hR.2.2.2.1 q (by omega) (by omega)).2
      rw [enc_obj (by omega), hkc] at hat
      obtain ⟨r9, k1, cell, k2, k3, k4, -⟩ := hat
      obtain ⟨cell', q1, q2, q3⟩ := hR.recv F.K hkc hc1 hc2 hr
      cases q1.symm.trans k2
      exact ThC.go hokM F hRt hTt hR hG hS hL h1 h2 hx1 hx2 k2 k4 (by rw [← he]; exact q3) hT
    rcases hk with ⟨k1, rfl⟩ | ⟨k1, rfl⟩
    · exact key 7 _ k1 (by decide) (by decide) rfl rfl (by decide) (by decide)
    · exact key 22 _ k1 (by decide) (by decide) rfl rfl (by decide) (by decide)
  · exact hi.elim
end Cl
/-- a contract out of the walk of the body -/
theorem Ct.of {G : GG} {M : MR} {d mc ms : Nat} {vs : List Value} {h : Hp} {O : Option Value → Hp → Prop} {OX : Nat → Nat → Hp → Prop} (hok : MOk M) (hlw : (My M).name ≠ "law") (hfl : ∀ v ∈ vs, isFl v = false) (hlen : (lg_sl vs).length ≤ Ml M) (body : WW G M (rmO d mc ms) h O OX 0 (ent vs (Ml M)) [] h mc ms) : Ct G M d mc ms vs h O OX := by
  intro hy
  have main : ∀ (p : Program) (e : Env) (s : State) (m : MethodId) (args : Array Value) (below : List Frame) (meth : Method) (c : Code) (s₁ : State), BodyLoose p (Gl G) (My M) (headSpec (Mws M) (rmO d mc ms)) (Mc M) (Ml M) (Mr M) e s m args below meth c s₁ → c.maxLocals = Ml M → c.exceptionTable.toList = tableOf (Mhh M) → va_Pc vs (fun U => Rel G h U.heap ∧ (G0 G).WarmedH U.vm) args s →
      W p (Gl G) e (headSpec (Mws M) (rmO d mc ms)).room s m args below meth c s.heap [] 0 0 (vx_MQ below (QcC G h O) (XcC G h OX) args s mc ms (Fre h)) (entryFrame m args (Ml M)) := by
    intro p e s m args below meth c s₁ B hml htab hP
    obtain ⟨rfl, hR, hW⟩ := hP
    have hts0 := atoms_spec (ws := Mws M) B.pre
    have F : Fm G M h p (rmO d mc ms) s m vs.toArray meth c := ⟨B.exec, B.bytes, B.returns, B.notSynchronized, hml, findClass_of_methodNamed B.named, fun w hw => hts0 w (List.mem_cons_of_mem _ hw), hW, hR.2.2.1, hR.1, fun _ => ⟨(name_of_methodNamed B.named B.method).1, htab⟩, hy, d, rfl, rfl⟩
    rw [lg_entry_eq]
    refine body p e s m vs.toArray below meth c _ F ?_ ?_ s.heap [] 0 0 _ hR (Gro.rf h) va_S.rf (LH.entry hfl hlen) (Nat.le_of_eq (Nat.zero_add _)) (Nat.le_of_eq (Nat.zero_add _))
    · intro v h' H' locs' cells' slots' pc' ls' hrok hO hR' hG' hS' hc1 hc2 hdec
      refine W.widen (k := mc) (n := ms) hc1 hc2 (vx_ret ?_)
      have hq : ∀ t : State, t.heap = H' → s.WarmedH t.vm → QcC G h O vs.toArray s (.returned v) t := fun t ht _ => ⟨⟨v, h', rfl, hO, by rw [ht]; exact hR', hG'⟩, hS'.F ht⟩
      have hr := B.returns
      have hlk := B.notSynchronized
      unfold rIn at hdec
      revert hdec hrok
      cases hmr : Mr M with
      | none =>
        rw [hmr] at hr
        intro hrok hdec
        cases v with
        | none => exact W.vret B.exec B.bytes hr hq hS'.2.2 hdec hlk
        | some v => exact hrok.elim
      | some ty =>
        rw [hmr] at hr
        intro hrok hdec
        cases v with
        | none => cases ty <;> exact hrok.elim
        | some v =>
          cases ty <;> cases v <;> first
            | exact hrok.elim
            | exact W.iret B.exec B.bytes hr hq hS'.2.2 hdec hlk
            | exact W.lret B.exec B.bytes hr hq hS'.2.2 hdec hlk
            | exact W.zret B.exec B.bytes hr (by rcases hrok with rfl | rfl <;> rfl) hq hS'.2.2 hdec hlk
            | exact W.aret B.exec B.bytes hr (Or.inl ⟨_, rfl⟩) (Or.inl rfl) hq hS'.2.2 hdec hlk
            | exact W.aret B.exec B.bytes hr (Or.inl ⟨_, rfl⟩) (Or.inr ⟨_, rfl⟩) hq hS'.2.2 hdec hlk
            | exact W.aret B.exec B.bytes hr (Or.inr ⟨_, rfl⟩) (Or.inl rfl) hq hS'.2.2 hdec hlk
            | exact W.aret B.exec B.bytes hr (Or.inr ⟨_, rfl⟩) (Or.inr ⟨_, rfl⟩) hq hS'.2.2 hdec hlk
    · intro ex q ce h' H' locs' cells' slots' pc' ls' rest' hx1 hx2 hO hR' hG' hS' hc1 hc2 hpass hce hcv hcl
      exact vx_outP F.own B.notSynchronized hpass hce hcv hcl (fun t ht _ => ⟨⟨ex, h', rfl, ⟨hx1, hx2⟩, hO, by rw [ht]; exact hR', hG'⟩, hS'.F ht⟩) hS'.2.2 hc1 hc2
  by_cases hem : (Mh M).isEmpty = true
  · refine vx_ofW (cc := Mc M) (maxL := Ml M) (ret := Mr M) hok.2.2.1 (ws' := lw_all) (by rw [← Mw_code hem]; rfl) (fun p e s m args below meth c s₁ B hml ht hP => main p e s m args below meth c s₁ B hml ?_ hP)
    have h1 : c.exceptionTable.toList = [] := List.eq_nil_iff_forall_not_mem.mpr (fun x hx => ht x hx)
    rw [h1]
    have : Mh M = [] := List.isEmpty_iff.mp hem
    simp [Mhh, this, tableOf]
  · refine vx_ofWH (cc := Mc M) (maxL := Ml M) (ret := Mr M) (hh := Mhh M) hok.2.2.1 (ws' := lw_all) (by rw [← Mw_codeW hem]; rfl) (fun p e s m args below meth c s₁ B hml hP => main p e s m args below meth c s₁ B hml ?_ hP)
    have hts0 := atoms_spec (ws := Mws M) B.pre
    exact vx_table (x := My M) B (by rw [← Mw_codeW hem]; exact hts0 _ List.mem_cons_self)
