set_option maxRecDepth 100000
/-! the model's questions: falls, cut, lost, dead, shuts, mean, worth, which -/
abbrev PO (m : Nat) (p : Value × Sg) : Option Value → Hp → Prop := fun r h2 => r = some p.1 ∧ MRep m h2 p.2
def nSt (T : Tw) : Nat := (T.1 0).toNatClampNeg
def nHo (T : Tw) : Nat := (T.1 1).toNatClampNeg
def nSk (T : Tw) : Nat := (T.1 2).toNatClampNeg
theorem TOK.nSt_ {T : Tw} {s n k : Nat} (t : TOK T s n k) : nSt T = s := by unfold nSt; rw [t.1.1]; exact nI_clamp (by have := t.1.2; omega)
theorem TOK.nHo_ {T : Tw} {s n k : Nat} (t : TOK T s n k) : nHo T = n := by unfold nHo; rw [t.2.1.1]; exact nI_clamp (by have := t.2.1.2; omega)
theorem TOK.nSk_ {T : Tw} {s n k : Nat} (t : TOK T s n k) : nSk T = k := by unfold nSk; rw [t.2.2.1.1]; exact nI_clamp (by have := t.2.2.1.2; omega)
abbrev inH (T : Tw) (x : Int32) : Prop := inN x (nHo T)
abbrev inK (T : Tw) (x : Int32) : Prop := inN x (nSk T)
def noI (σ : Sg) (b : Nat) : Value × Sg := (.int (-(nI b)), rfs σ b)
def noL (σ : Sg) (b : Nat) : Value × Sg := (.long (-(nI b)).toInt64, rfs σ b)
theorem neg_nI (k : Nat) : -(-(nI k)) = nI k := Int32.neg_neg
/-- a contract's end made weaker -/
theorem Ct.weak {G : GG} {M : MR} {d mc ms : Nat} {vs : List Value} {h : Hp} {O O' : Option Value → Hp → Prop} {OX : Nat → Nat → Hp → Prop} (c : Ct G M d mc ms vs h O OX) (hw : ∀ r h', O r h' → O' r h') : Ct G M d mc ms vs h O' OX := by
  intro hy p
  have c := c hy p
  intro e ha hc hk s m args below hf happ hP hK
  obtain ⟨k, o, h1, h2, h3, hQ⟩ := c e ha hc hk s m args below hf happ hP hK
  refine ⟨k, o, h1, h2, h3, ?_⟩
  rcases hQ with ⟨⟨⟨r, h', a1, a2, a3, a4⟩, a5⟩, b⟩ | q
  · exact Or.inl ⟨⟨⟨r, h', a1, hw _ _ a2, a3, a4⟩, a5⟩, b⟩
  · exact Or.inr q
theorem no_PO {G : GG} {m k : Nat} {h : Hp} {σ : Sg} (r : MRep m h σ) (hk : k < 8) {b : Int32} (hb : b = -(nI k)) : Ct G mX5_no 0 0 0 [.ref m, .int b] h (PO m (noI σ k)) nX := by
  subst hb
  exact Ct.weak (c_no r.1 hk (neg_nI k)) (fun r1 h1 e => by rw [e.1, e.2]; exact ⟨rfl, r.no hk⟩)
theorem noTen_PO {G : GG} {m k : Nat} {h : Hp} {σ : Sg} (r : MRep m h σ) (hk : k < 8) {b : Int32} (hb : b = -(nI k)) : Ct G mX5_noTen 0 0 0 [.ref m, .int b] h (PO m (.int (-(nI k) - nI 10), rfs σ k)) nX := by
  subst hb
  exact Ct.weak (c_noTen r.1 hk (neg_nI k)) (fun r1 h1 e => by rw [e.1, e.2]; exact ⟨rfl, r.no hk⟩)
theorem noLow_PO {G : GG} {m k : Nat} {h : Hp} {σ : Sg} (r : MRep m h σ) (hk : k < 8) {b : Int32} (hb : b = -(nI k)) : Ct G mX5_noLow 0 0 0 [.ref m, .int b] h (PO m (.int (-1000000 + -(nI k)), rfs σ k)) nX := by
  subst hb
  exact Ct.weak (c_noLow r.1 hk (neg_nI k)) (fun r1 h1 e => by rw [e.1, e.2]; exact ⟨rfl, r.no hk⟩)
def oFalls (σ : Sg) (x y : Int32) : Value × Sg := if inH (gT σ) x ∧ inK (gT σ) y then (.int (fallsP (gT σ) x.toNatClampNeg y.toNatClampNeg), σ) else noI σ 1
theorem o_falls {G : GG} {h : Hp} {m : Nat} {σ : Sg} {x y : Int32} (r : MRep m h σ) : Ct G mX5_falls 1 0 0 [.ref m, .int x, .int y] h (PO m (oFalls σ x y)) nX := by
  have hM := r.1
  obtain ⟨s, n, k, t⟩ := r.tw
  have hn := t.n10
  have hk := t.k4
  refine Ct.mk ok_mX5_falls ?_
  have bad : ¬ (inH (gT σ) x ∧ inK (gT σ) y) → WW G mX5_falls (rmO 1 0 0) h (PO m (oFalls σ x y)) nX 25 [.ref m, .int x, .int y] [] h 0 0 := by
    intro c
    unfold oFalls
    rw [if_neg c]
    refine blk kX5_falls_25 ?_
    refine callv_g hM.1 (no_PO (k := 1) r (by decide) rfl) (fun r1 h1 hO => ?_)
    obtain ⟨rfl, hr⟩ := hO
    refine blk kX5_falls_30 ?_
    exact ⟨trivial, rfl, hr⟩
  rw [show inH (gT σ) x = inN x n by unfold inH; rw [t.1.nHo_], show inK (gT σ) y = inN y k by unfold inK; rw [t.1.nSk_]] at bad
  refine blk kX5_falls_0 ?_
  refine callv_r hM.1 (c_isHouse hM t) ?_
  refine br_c (fun c1 => ?_) (fun c1 => ?_)
  · exact bad (fun q => bI_eq c1 q.1)
  · have c1 := bI_ne c1
    refine blk kX5_falls_8 ?_
    refine callv_r hM.1 (c_isShake hM t) ?_
    refine br_c (fun c2 => ?_) (fun c2 => ?_)
    · exact bad (fun q => bI_eq c2 q.2)
    · have c2 := bI_ne c2
      obtain ⟨x1, x2⟩ := inN_ix c1 (by omega)
      obtain ⟨y1, y2⟩ := inN_ix c2 (by omega)
      unfold oFalls
      rw [if_pos ⟨by unfold inH; rw [t.1.nHo_]; exact c1, by unfold inK; rw [t.1.nSk_]; exact c2⟩]
      refine blk kX5_falls_16 ?_
      refine callv_r hM.1 (c_fallsOf hM t x2 y2 x1 y1) ?_
      refine blk kX5_falls_30 ?_
      exact ⟨trivial, rfl, r⟩
