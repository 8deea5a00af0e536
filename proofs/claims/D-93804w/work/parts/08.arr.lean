set_option maxRecDepth 100000
section Arr
variable {M : MR} {pc : Nat}
theorem tys_at (G : GG) (k : Nat) (h1 : 101 ≤ k) (h2 : k ≤ 106) : (tysG G)[k - 101]? = some (Gt G k, aty k) := by
  rcases (by omega : k = 101 ∨ k = 102 ∨ k = 103 ∨ k = 104 ∨ k = 105 ∨ k = 106) with rfl | rfl | rfl | rfl | rfl | rfl <;> rfl
theorem Fm.arr {G : GG} {h0 : Hp} {p : Program} {R : Room} {s : State} {m : MethodId} {args : Array Value} {meth : Method} {c : Code} (F : Fm G M h0 p R s m args meth c) (k : Nat) (h1 : 101 ≤ k) (h2 : k ≤ 106) : ArrOfT s (Gt G k) (aty k) := (F.K.2 _ _ (tys_at G k h1 h2)).1
theorem Rel.arr {G : GG} {h : Hp} {H : Heap} (r : Rel G h H) {a c : Nat} (hk : Kd h a = c) (h1 : 101 ≤ c) (h2 : c ≤ 106) : va_at (GD G) vwCl (a, .inl (Gt G c, encA h a)) H := by
  have hat := (r.2.2.2.1 a (by omega) (by omega)).2
  rw [enc_arr (by omega), hk] at hat
  exact hat
theorem encA_I {h : Hp} {a : Nat} (h1 : Kd h a ≠ 102) (h2 : Kd h a < 105) : encA h a = (Ln h a, .inl (Ai h a)) := by simp [encA, h1, h2]
theorem encA_L {h : Hp} {a : Nat} (h1 : Kd h a = 102) : encA h a = (Ln h a, .inr (.inl (Al h a))) := by simp [encA, h1]
theorem encA_R {h : Hp} {a : Nat} (h1 : ¬ Kd h a < 105) : encA h a = (Ln h a, .inr (.inr (.inr (.inr (Ar h a))))) := by
  have : Kd h a ≠ 102 := by omega
  simp [encA, h1, this]
theorem Rel.ln {G : GG} {h : Hp} {H : Heap} (r : Rel G h H) (a : Nat) : Ln h a < 2 ^ 31 := r.2.2.2.2.2 a
def i_iald : Tr := fun _ _ _ _ _ k l st h bc bs => match st with
  | .int i :: .ref a :: r => ∃ j c, Kd h a = c ∧ (c = 101 ∨ c = 999) ∧ i = nI j ∧ j < Ln h a ∧ k l (.int (Ai h a j) :: r) h bc bs
  | _ => False
def i_bald : Tr := fun _ _ _ _ _ k l st h bc bs => match st with
  | .int i :: .ref a :: r => ∃ j, Kd h a = 103 ∧ i = nI j ∧ j < Ln h a ∧ k l (.int (Ai h a j) :: r) h bc bs
  | _ => False
def i_sald : Tr := fun _ _ _ _ _ k l st h bc bs => match st with
  | .int i :: .ref a :: r => ∃ j, Kd h a = 104 ∧ i = nI j ∧ j < Ln h a ∧ k l (.int (Ai h a j) :: r) h bc bs
  | _ => False
def i_lald : Tr := fun _ _ _ _ _ k l st h bc bs => match st with
  | .int i :: .ref a :: r => ∃ j, Kd h a = 102 ∧ i = nI j ∧ j < Ln h a ∧ k l (.long (Al h a j) :: r) h bc bs
  | _ => False
def i_aald : Tr := fun _ _ _ _ _ k l st h bc bs => match st with
  | .int i :: .ref a :: r => ∃ j c v, Kd h a = c ∧ (c = 105 ∨ c = 106) ∧ i = nI j ∧ j < Ln h a ∧ Ar h a j = v ∧ k l (va_rf v :: r) h bc bs
  | _ => False
theorem s_iald (hd : decode (Mc M) pc = .ok (.iaload, 1)) : Snd M pc (pc + 1) i_iald := by
  intro G R d h0 O OX kn _ _ hkn l st h bc bs hi
  unfold i_iald at hi
  split at hi
  · rename_i i a r
    obtain ⟨j, c, hk, hc, hi1, hj, hi⟩ := hi
    intro p e s m args below meth cd ZZ F hRt hTt H locs cells slots ls hR hG hS hL h1 h2
    have hjc : j < 2 ^ 31 := Nat.lt_trans hj (hR.ln a)
    have hin : vp_in i (Ln h a) := by rw [hi1]; exact vp_in_nI hj (hR.ln a)
    have hcl : i.toNatClampNeg = j := by rw [hi1]; exact nI_clamp hjc
    have kk := hkn _ _ _ _ _ hi p e s m args below meth cd ZZ F hRt hTt H locs cells slots ls hR hG hS hL h1 h2
    rw [← hcl] at kk
    rcases hc with rfl | rfl
    · have hat := hR.arr hk (by decide) (by decide)
      rw [encA_I (by rw [hk]; decide) (by rw [hk]; decide)] at hat
      exact va_iald F.hx F.hb F.K (va_P1 hat) 0 0 rfl rfl hin hd kk
    · obtain ⟨hb9, scr, g1, g2, g3, g4, g5⟩ := hR.2.2.2.2.1 a hk
      have hlt : i.toNatClampNeg < Ln h a := by rw [hcl]; exact hj
      exact W.iald (v := .int (Ai h a i.toNatClampNeg)) F.hx F.hb (by rw [hR.2.2.1 a hb9]; exact g1) (State.isArrayOf_alike F.warm.alike g2) g3 (by rw [g4]; exact hin) (g5 _ hlt) rfl rfl hd kk
  · exact hi.elim
theorem s_bald (hd : decode (Mc M) pc = .ok (.baload, 1)) : Snd M pc (pc + 1) i_bald := by
  intro G R d h0 O OX kn _ _ hkn l st h bc bs hi
  unfold i_bald at hi
  split at hi
  · rename_i i a r
    obtain ⟨j, hk, hi1, hj, hi⟩ := hi
    intro p e s m args below meth cd ZZ F hRt hTt H locs cells slots ls hR hG hS hL h1 h2
    have hin : vp_in i (Ln h a) := by rw [hi1]; exact vp_in_nI hj (hR.ln a)
    have hcl : i.toNatClampNeg = j := by rw [hi1]; exact nI_clamp (Nat.lt_trans hj (hR.ln a))
    have kk := hkn _ _ _ _ _ hi p e s m args below meth cd ZZ F hRt hTt H locs cells slots ls hR hG hS hL h1 h2
    rw [← hcl] at kk
    have hat := hR.arr hk (by decide) (by decide)
    rw [encA_I (by rw [hk]; decide) (by rw [hk]; decide)] at hat
    exact va_bald F.hx F.hb F.K (va_P1 hat) 0 2 rfl rfl hin hd kk
  · exact hi.elim
theorem s_sald (hd : decode (Mc M) pc = .ok (.saload, 1)) : Snd M pc (pc + 1) i_sald := by
  intro G R d h0 O OX kn _ _ hkn l st h bc bs hi
  unfold i_sald at hi
  split at hi
  · rename_i i a r
    obtain ⟨j, hk, hi1, hj, hi⟩ := hi
    intro p e s m args below meth cd ZZ F hRt hTt H locs cells slots ls hR hG hS hL h1 h2
    have hin : vp_in i (Ln h a) := by rw [hi1]; exact vp_in_nI hj (hR.ln a)
    have hcl : i.toNatClampNeg = j := by rw [hi1]; exact nI_clamp (Nat.lt_trans hj (hR.ln a))
    have kk := hkn _ _ _ _ _ hi p e s m args below meth cd ZZ F hRt hTt H locs cells slots ls hR hG hS hL h1 h2
    rw [← hcl] at kk
    have hat := hR.arr hk (by decide) (by decide)
    rw [encA_I (by rw [hk]; decide) (by rw [hk]; decide)] at hat
    exact va_sald F.hx F.hb F.K (va_P1 hat) 0 3 rfl rfl hin hd kk
  · exact hi.elim
theorem s_lald (hd : decode (Mc M) pc = .ok (.laload, 1)) : Snd M pc (pc + 1) i_lald := by
  intro G R d h0 O OX kn _ _ hkn l st h bc bs hi
  unfold i_lald at hi
  split at hi
  · rename_i i a r
    obtain ⟨j, hk, hi1, hj, hi⟩ := hi
    intro p e s m args below meth cd ZZ F hRt hTt H locs cells slots ls hR hG hS hL h1 h2
    have hin : vp_in i (Ln h a) := by rw [hi1]; exact vp_in_nI hj (hR.ln a)
    have hcl : i.toNatClampNeg = j := by rw [hi1]; exact nI_clamp (Nat.lt_trans hj (hR.ln a))
    have kk := hkn _ _ _ _ _ hi p e s m args below meth cd ZZ F hRt hTt H locs cells slots ls hR hG hS hL h1 h2
    rw [← hcl] at kk
    have hat := hR.arr hk (by decide) (by decide)
    rw [encA_L hk] at hat
    exact va_lald F.hx F.hb F.K (va_P1 hat) 0 1 rfl rfl hin hd kk
  · exact hi.elim
theorem s_aald (hd : decode (Mc M) pc = .ok (.aaload, 1)) : Snd M pc (pc + 1) i_aald := by
  intro G R d h0 O OX kn _ _ hkn l st h bc bs hi
  unfold i_aald at hi
  split at hi
  · rename_i i a r
    obtain ⟨j, c, v, hk, hc, hi1, hj, hv, hi⟩ := hi
    intro p e s m args below meth cd ZZ F hRt hTt H locs cells slots ls hR hG hS hL h1 h2
    have hin : vp_in i (Ln h a) := by rw [hi1]; exact vp_in_nI hj (hR.ln a)
    have hcl : i.toNatClampNeg = j := by rw [hi1]; exact nI_clamp (Nat.lt_trans hj (hR.ln a))
    have kk := hkn _ _ _ _ _ hi p e s m args below meth cd ZZ F hRt hTt H locs cells slots ls hR hG hS hL h1 h2
    rw [← hv, ← hcl] at kk
    rcases hc with rfl | rfl
    · have hat := hR.arr hk (by decide) (by decide)
      rw [encA_R (by rw [hk]; decide)] at hat
      exact va_aldq F.hx F.hb F.K (va_P1 hat) 0 4 rfl rfl hin hd kk
    · have hat := hR.arr hk (by decide) (by decide)
      rw [encA_R (by rw [hk]; decide)] at hat
      exact va_aldq F.hx F.hb F.K (va_P1 hat) 0 5 rfl rfl hin hd kk
  · exact hi.elim
def i_iast : Tr := fun _ _ _ _ _ k l st h bc bs => match st with
  | .int v :: .int i :: .ref a :: r => ∃ j, Kd h a = 101 ∧ i = nI j ∧ j < Ln h a ∧ k l r (sAi h a j v) bc bs
  | _ => False
def i_bast : Tr := fun _ _ _ _ _ k l st h bc bs => match st with
  | .int v :: .int i :: .ref a :: r => ∃ j, Kd h a = 103 ∧ i = nI j ∧ j < Ln h a ∧ k l r (sAi h a j (vp_nar .byte v)) bc bs
  | _ => False
def i_sast : Tr := fun _ _ _ _ _ k l st h bc bs => match st with
  | .int v :: .int i :: .ref a :: r => ∃ j, Kd h a = 104 ∧ i = nI j ∧ j < Ln h a ∧ k l r (sAi h a j (vp_nar .short v)) bc bs
  | _ => False
def i_last : Tr := fun _ _ _ _ _ k l st h bc bs => match st with
  | .long v :: .int i :: .ref a :: r => ∃ j, Kd h a = 102 ∧ i = nI j ∧ j < Ln h a ∧ k l r (sAl h a j v) bc bs
  | _ => False
def i_aast : Tr := fun _ _ _ _ _ k l st h bc bs => match st with
  | .ref v :: .int i :: .ref a :: r => ∃ j, (Kd h a = 105 ∧ Kd h v = 5 ∨ Kd h a = 106 ∧ Kd h v = 20) ∧ i = nI j ∧ j < Ln h a ∧ k l r (sAr h a j (some v)) bc bs
  | _ => False
theorem enc_sAi {G : GG} {h : Hp} {a j q : Nat} {v : Int32} (hq : q ≠ a) : enc G (sAi h a j v) q = enc G h q := enc_ne_A rfl rfl (by funext z; simp [sAi, Ai, up2, hq]) rfl rfl (fun _ => rfl)
theorem enc_sAl {G : GG} {h : Hp} {a j q : Nat} {v : Int64} (hq : q ≠ a) : enc G (sAl h a j v) q = enc G h q := enc_ne_A rfl rfl rfl (by funext z; simp [sAl, Al, up2, hq]) rfl (fun _ => rfl)
theorem enc_sAr {G : GG} {h : Hp} {a j q : Nat} {v : Option Nat} (hq : q ≠ a) : enc G (sAr h a j v) q = enc G h q := enc_ne_A rfl rfl rfl rfl (by funext z; simp [sAr, Ar, up2, hq]) (fun _ => rfl)
theorem Ai_sAi {h : Hp} {a j : Nat} {v : Int32} : Ai (sAi h a j v) a = upd (Ai h a) j v := by funext q; simp [sAi, Ai, up2, upd]
theorem Al_sAl {h : Hp} {a j : Nat} {v : Int64} : Al (sAl h a j v) a = vp_updL (Al h a) j v := by funext q; simp [sAl, Al, up2, vp_updL]
theorem Ar_sAr {h : Hp} {a j : Nat} {v : Option Nat} : Ar (sAr h a j v) a = va_up (Ar h a) j v := by funext q; simp [sAr, Ar, up2, va_up]
theorem Ai_sAi_ne {h : Hp} {a j q : Nat} {v : Int32} (hq : q ≠ a) : Ai (sAi h a j v) q = Ai h q := by funext z; simp [sAi, Ai, up2, hq]
theorem s_iast (hd : decode (Mc M) pc = .ok (.iastore, 1)) : Snd M pc (pc + 1) i_iast := by
  intro G R d h0 O OX kn _ _ hkn l st h bc bs hi
  unfold i_iast at hi
  split at hi
  · rename_i v i a r
    obtain ⟨j, hk, hi1, hj, hi⟩ := hi
    intro p e s m args below meth cd ZZ F hRt hTt H locs cells slots ls hR hG hS hL h1 h2
    have hin : vp_in i (Ln h a) := by rw [hi1]; exact vp_in_nI hj (hR.ln a)
    have hcl : i.toNatClampNeg = j := by rw [hi1]; exact nI_clamp (Nat.lt_trans hj (hR.ln a))
    have hat := hR.arr hk (by decide) (by decide)
    rw [encA_I (by rw [hk]; decide) (by rw [hk]; decide)] at hat
    refine row_iast F.hx F.hb hat (F.arr 101 (by decide) (by decide)) hin hd (fun H1 i9 g1 g2 g3 => ?_)
    rw [hcl] at g1
    refine hkn _ _ _ _ _ hi p e s m args below meth cd ZZ F hRt hTt H1 _ cells slots ls ?_ (hG.tr (Gro.same rfl rfl)) (hS.put g2 g3 (hG.fre (Or.inl ⟨by rw [hk]; decide, by rw [hk]; decide⟩))) hL h1 h2
    refine hR.one (by rw [hk]; decide) (by rw [hk]; decide) g2 g3 rfl rfl rfl (fun q hq => enc_sAi hq) ?_ (fun q hq => Ai_sAi_ne hq)
    rw [enc_arr (h := sAi h a j v) (show ¬ Kd h a < 100 by rw [hk]; decide), encA_I (h := sAi h a j v) (by show Kd h a ≠ 102; rw [hk]; decide) (by show Kd h a < 105; rw [hk]; decide), show Ln (sAi h a j v) a = Ln h a from rfl, Ai_sAi, show Kd (sAi h a j v) a = 101 from hk]
    exact g1
  · exact hi.elim
theorem s_bast (hd : decode (Mc M) pc = .ok (.bastore, 1)) : Snd M pc (pc + 1) i_bast := by
  intro G R d h0 O OX kn _ _ hkn l st h bc bs hi
  unfold i_bast at hi
  split at hi
  · rename_i v i a r
    obtain ⟨j, hk, hi1, hj, hi⟩ := hi
    intro p e s m args below meth cd ZZ F hRt hTt H locs cells slots ls hR hG hS hL h1 h2
    have hin : vp_in i (Ln h a) := by rw [hi1]; exact vp_in_nI hj (hR.ln a)
    have hcl : i.toNatClampNeg = j := by rw [hi1]; exact nI_clamp (Nat.lt_trans hj (hR.ln a))
    have hat := hR.arr hk (by decide) (by decide)
    rw [encA_I (by rw [hk]; decide) (by rw [hk]; decide)] at hat
    refine row_bast F.hx F.hb hat (F.arr 103 (by decide) (by decide)) hin hd (fun H1 i9 g1 g2 g3 => ?_)
    rw [hcl] at g1
    refine hkn _ _ _ _ _ hi p e s m args below meth cd ZZ F hRt hTt H1 _ cells slots ls ?_ (hG.tr (Gro.same rfl rfl)) (hS.put g2 g3 (hG.fre (Or.inl ⟨by rw [hk]; decide, by rw [hk]; decide⟩))) hL h1 h2
    refine hR.one (by rw [hk]; decide) (by rw [hk]; decide) g2 g3 rfl rfl rfl (fun q hq => enc_sAi hq) ?_ (fun q hq => Ai_sAi_ne hq)
    rw [enc_arr (h := sAi h a j (vp_nar .byte v)) (show ¬ Kd h a < 100 by rw [hk]; decide), encA_I (h := sAi h a j (vp_nar .byte v)) (by show Kd h a ≠ 102; rw [hk]; decide) (by show Kd h a < 105; rw [hk]; decide), show Ln (sAi h a j (vp_nar .byte v)) a = Ln h a from rfl, Ai_sAi, show Kd (sAi h a j (vp_nar .byte v)) a = 103 from hk]
    exact g1
  · exact hi.elim
theorem s_sast (hd : decode (Mc M) pc = .ok (.sastore, 1)) : Snd M pc (pc + 1) i_sast := by
  intro G R d h0 O OX kn _ _ hkn l st h bc bs hi
  unfold i_sast at hi
  split at hi
  · rename_i v i a r
    obtain ⟨j, hk, hi1, hj, hi⟩ := hi
    intro p e s m args below meth cd ZZ F hRt hTt H locs cells slots ls hR hG hS hL h1 h2
    have hin : vp_in i (Ln h a) := by rw [hi1]; exact vp_in_nI hj (hR.ln a)
    have hcl : i.toNatClampNeg = j := by rw [hi1]; exact nI_clamp (Nat.lt_trans hj (hR.ln a))
    have hat := hR.arr hk (by decide) (by decide)
    rw [encA_I (by rw [hk]; decide) (by rw [hk]; decide)] at hat
    refine row_sast F.hx F.hb hat (F.arr 104 (by decide) (by decide)) hin hd (fun H1 i9 g1 g2 g3 => ?_)
    rw [hcl] at g1
    refine hkn _ _ _ _ _ hi p e s m args below meth cd ZZ F hRt hTt H1 _ cells slots ls ?_ (hG.tr (Gro.same rfl rfl)) (hS.put g2 g3 (hG.fre (Or.inl ⟨by rw [hk]; decide, by rw [hk]; decide⟩))) hL h1 h2
    refine hR.one (by rw [hk]; decide) (by rw [hk]; decide) g2 g3 rfl rfl rfl (fun q hq => enc_sAi hq) ?_ (fun q hq => Ai_sAi_ne hq)
    rw [enc_arr (h := sAi h a j (vp_nar .short v)) (show ¬ Kd h a < 100 by rw [hk]; decide), encA_I (h := sAi h a j (vp_nar .short v)) (by show Kd h a ≠ 102; rw [hk]; decide) (by show Kd h a < 105; rw [hk]; decide), show Ln (sAi h a j (vp_nar .short v)) a = Ln h a from rfl, Ai_sAi, show Kd (sAi h a j (vp_nar .short v)) a = 104 from hk]
    exact g1
  · exact hi.elim
theorem s_last (hd : decode (Mc M) pc = .ok (.lastore, 1)) : Snd M pc (pc + 1) i_last := by
  intro G R d h0 O OX kn _ _ hkn l st h bc bs hi
  unfold i_last at hi
  split at hi
  · rename_i v i a r
    obtain ⟨j, hk, hi1, hj, hi⟩ := hi
    intro p e s m args below meth cd ZZ F hRt hTt H locs cells slots ls hR hG hS hL h1 h2
    have hin : vp_in i (Ln h a) := by rw [hi1]; exact vp_in_nI hj (hR.ln a)
    have hcl : i.toNatClampNeg = j := by rw [hi1]; exact nI_clamp (Nat.lt_trans hj (hR.ln a))
    have hat := hR.arr hk (by decide) (by decide)
    rw [encA_L hk] at hat
    refine row_last F.hx F.hb hat (F.arr 102 (by decide) (by decide)) hin hd (fun H1 i9 g1 g2 g3 => ?_)
    rw [hcl] at g1
    refine hkn _ _ _ _ _ hi p e s m args below meth cd ZZ F hRt hTt H1 _ cells slots ls ?_ (hG.tr (Gro.same rfl rfl)) (hS.put g2 g3 (hG.fre (Or.inl ⟨by rw [hk]; decide, by rw [hk]; decide⟩))) hL h1 h2
    refine hR.one (by rw [hk]; decide) (by rw [hk]; decide) g2 g3 rfl rfl rfl (fun q hq => enc_sAl hq) ?_ (fun q hq => rfl)
    rw [enc_arr (h := sAl h a j v) (show ¬ Kd h a < 100 by rw [hk]; decide), encA_L (h := sAl h a j v) (show Kd h a = 102 from hk), show Ln (sAl h a j v) a = Ln h a from rfl, Al_sAl, show Kd (sAl h a j v) a = 102 from hk]
    exact g1
  · exact hi.elim
theorem s_aast (hd : decode (Mc M) pc = .ok (.aastore, 1)) : Snd M pc (pc + 1) i_aast := by
  intro G R d h0 O OX kn _ _ hkn l st h bc bs hi
  unfold i_aast at hi
  split at hi
  · rename_i v i a r
    obtain ⟨j, hk, hi1, hj, hi⟩ := hi
    intro p e s m args below meth cd ZZ F hRt hTt H locs cells slots ls hR hG hS hL h1 h2
    have hin : vp_in i (Ln h a) := by rw [hi1]; exact vp_in_nI hj (hR.ln a)
    have hcl : i.toNatClampNeg = j := by rw [hi1]; exact nI_clamp (Nat.lt_trans hj (hR.ln a))
    have key : ∀ (c cv t0 : Nat) (rr : vw_C), 105 ≤ c → c ≤ 106 → Kd h a = c → Kd h v = cv → cv < 100 → cv ≠ 0 → vwCl[cv - 1]? = some rr → (tysG G)[t0]? = some (Gt G c, .object rr.1) → W p (Gl G) e R s m args below meth cd H locs cells slots ZZ (F0 m pc ls (.ref v :: .int i :: .ref a :: r)) := by
      intro c cv t0 rr hc1 hc2 hk hv hcv hcv0 hr ht
      have hat := hR.arr hk (by omega) hc2
      rw [encA_R (by omega)] at hat
      have hav := (hR.2.2.2.1 v (by omega) (by omega)).2
      rw [enc_obj (by omega), hv] at hav
      refine row_aast F.hx F.hb F.K t0 (cv - 1) hat ht hav hr hin hd (fun H1 i9 g1 g2 g3 => ?_)
      rw [hcl] at g1
      refine hkn _ _ _ _ _ hi p e s m args below meth cd ZZ F hRt hTt H1 _ cells slots ls ?_ (hG.tr (Gro.same rfl rfl)) (hS.put g2 g3 (hG.fre (Or.inl ⟨by omega, by omega⟩))) hL h1 h2
      refine hR.one (by omega) (by omega) g2 g3 rfl rfl rfl (fun q hq => enc_sAr hq) ?_ (fun q hq => rfl)
      rw [enc_arr (h := sAr h a j (some v)) (show ¬ Kd h a < 100 by omega), encA_R (h := sAr h a j (some v)) (show ¬ Kd h a < 105 by omega), show Ln (sAr h a j (some v)) a = Ln h a from rfl, Ar_sAr, show Kd (sAr h a j (some v)) a = c from hk]
      exact g1
    rcases hk with ⟨k1, k2⟩ | ⟨k1, k2⟩
    · exact key 105 5 4 _ (by decide) (by decide) k1 k2 (by decide) (by decide) rfl rfl
    · exact key 106 20 5 _ (by decide) (by decide) k1 k2 (by decide) (by decide) rfl rfl
  · exact hi.elim
def i_alen : Tr := fun _ _ _ _ _ k l st h bc bs => match st with
  | .ref a :: r => ∃ c, Kd h a = c ∧ ((101 ≤ c ∧ c ≤ 106) ∨ c = 999) ∧ k l (.int (nI (Ln h a)) :: r) h bc bs
  | _ => False
theorem s_alen (hd : decode (Mc M) pc = .ok (.arraylength, 1)) : Snd M pc (pc + 1) i_alen := by
  intro G R d h0 O OX kn _ _ hkn l st h bc bs hi
  unfold i_alen at hi
  split at hi
  · rename_i a r
    obtain ⟨c, hk, hc, hi⟩ := hi
    intro p e s m args below meth cd ZZ F hRt hTt H locs cells slots ls hR hG hS hL h1 h2
    have kk := hkn _ _ _ _ _ hi p e s m args below meth cd ZZ F hRt hTt H locs cells slots ls hR hG hS hL h1 h2
    rcases hc with ⟨c1, c2⟩ | rfl
    · have hat := hR.arr hk c1 c2
      exact va_alen F.hx F.hb F.K (va_P1 hat) 0 (c - 101) rfl (tys_at G c c1 c2) rfl hd kk
    · obtain ⟨hb9, scr, g1, g2, g3, g4, g5⟩ := hR.2.2.2.2.1 a hk
      exact W.alen (n := Int32.ofNat (Ln h a)) F.hx F.hb (by rw [hR.2.2.1 a hb9]; exact g1) (State.isArrayOf_alike F.warm.alike g2) (by rw [g4] <;> rfl) rfl rfl hd kk
  · exact hi.elim
/-! new arrays and objects -/
def i_newa (c : Nat) : Tr := fun _ _ _ _ _ k l st h bc bs => match st with
  | .int n :: r => ∃ N, n = nI N ∧ N < 1048576 ∧ 1 ≤ bc ∧ N ≤ bs ∧ k l (.ref (Nx h) :: r) (nAy h c N) (bc - 1) (bs - N)
  | _ => False
theorem enc_nAy {G : GG} {h : Hp} {c N q : Nat} (hq : q ≠ Nx h) : enc G (nAy h c N) q = enc G h q := enc_ne_A (by simp [nAy, Kd, up1, hq]) (by simp [nAy, Ln, up1, hq]) (by funext z; simp [nAy, Ai, zr2, hq]) (by funext z; simp [nAy, Al, zr2, hq]) (by funext z; simp [nAy, Ar, zr2, hq]) (fun _ => rfl)
theorem Kd_nAy {h : Hp} {c N : Nat} : Kd (nAy h c N) (Nx h) = c := by simp [nAy, Kd, up1]
theorem Ln_nAy {h : Hp} {c N : Nat} : Ln (nAy h c N) (Nx h) = N := by simp [nAy, Ln, up1]
theorem Ai_nAy {h : Hp} {c N : Nat} : Ai (nAy h c N) (Nx h) = fun _ => 0 := by funext q; simp [nAy, Ai, zr2]
theorem Al_nAy {h : Hp} {c N : Nat} : Al (nAy h c N) (Nx h) = fun _ => 0 := by funext q; simp [nAy, Al, zr2]
theorem Ar_nAy {h : Hp} {c N : Nat} : Ar (nAy h c N) (Nx h) = fun _ => none := by funext q; simp [nAy, Ar, zr2]
theorem Rel.nAy {G : GG} {h : Hp} {H H1 : Heap} {c N : Nat} {x : vp_A} (hR : Rel G h H) (hc1 : 101 ≤ c) (hc2 : c ≤ 106) (hN : N < 1048576) (hx : encA (nAy h c N) (Nx h) = x) (z : H1.size = H.size + 1) (oq : ∀ q : Nat, q < H.size → H1[q]? = H[q]?) (hat : va_at (GD G) vwCl (H.size, .inl (Gt G c, x)) H1) : Rel G (nAy h c N) H1 := by
  refine hR.more (c := c) (by omega) z oq rfl (fun q hq => by simp [CStrengthenFirstLaw_law_r1973_a72b69.nAy, Ln, up1, hq]) (by rw [Ln_nAy]; omega) rfl (fun q hq => enc_nAy hq) ?_ (fun q hq => by funext z; simp [CStrengthenFirstLaw_law_r1973_a72b69.nAy, Ai, zr2, hq])
  rw [enc_arr (by rw [Kd_nAy]; omega), Kd_nAy, hx]
  rw [hR.1] at hat
  exact hat
theorem s_newa {c : Nat} {at9 : ArrayType} (hd : decode (Mc M) pc = .ok (.newarray at9, 2)) (hc1 : 101 ≤ c) (hc2 : c ≤ 104) (hty : newarray.typeOf at9 = aty c) (hw : Cond.arrayClass (aty c) ∈ lw_all) : Snd M pc (pc + 2) (i_newa c) := by
  intro G R d h0 O OX kn _ _ hkn l st h bc bs hi
  unfold i_newa at hi
  split at hi
  · rename_i n r
    obtain ⟨N, hn, hN, hbc, hbs, hi⟩ := hi
    intro p e s m args below meth cd ZZ F hRt hTt H locs cells slots ls hR hG hS hL h1 h2
    have hn0 : ¬ n < 0 := by rw [hn]; exact nI_pos (by omega)
    have hcl : n.toNatClampNeg = N := by rw [hn]; exact nI_clamp (by omega)
    refine va_newaK (atype := at9) (h := H.size) F.hx F.hb (by rw [hty]; exact F.ts _ hw) rfl hd rfl hn0 hcl (by rw [hty]; rcases (by omega : c = 101 ∨ c = 102 ∨ c = 103 ∨ c = 104) with rfl | rfl | rfl | rfl <;> simp only [aty, componentBytes] <;> omega) (by omega) (by omega) rfl (fun H1 cA e1 z1 o1 hAr hNm => ?_)
    rw [hty] at e1 hNm
    have hca : cA = Gt G c := by
      have h9 := (F.K.2 _ _ (tys_at G c hc1 (by omega))).2
      rcases (by omega : c = 101 ∨ c = 102 ∨ c = 103 ∨ c = 104) with rfl | rfl | rfl | rfl <;> exact Option.some.inj (hNm.symm.trans h9)
    subst hca
    have hN9 := hR.1
    rw [hN9]
    refine hkn _ _ _ _ _ hi p e s m args below meth cd ZZ F hRt hTt H1 locs (cells + 1) (slots + N) ls ?_ (hG.tr (Gro.more (c := c) rfl rfl)) ⟨Nat.le_trans hS.1 (by omega), fun x a1 a2 => (o1 x (Nat.lt_of_lt_of_le a1 hS.1)).trans (hS.2.1 x a1 a2), hS.2.2⟩ hL (by omega) (by omega)
    rcases (by omega : c = 101 ∨ c = 102 ∨ c = 103 ∨ c = 104) with rfl | rfl | rfl | rfl
    · exact hR.nAy (x := (N, .inl (fun _ => 0))) (by decide) (by decide) hN (by rw [encA_I (by rw [Kd_nAy]; decide) (by rw [Kd_nAy]; decide), Ln_nAy, Ai_nAy]) z1 o1 e1
    · exact hR.nAy (x := (N, .inr (.inl (fun _ => 0)))) (by decide) (by decide) hN (by rw [encA_L Kd_nAy, Ln_nAy, Al_nAy]) z1 o1 e1
    · exact hR.nAy (x := (N, .inl (fun _ => 0))) (by decide) (by decide) hN (by rw [encA_I (by rw [Kd_nAy]; decide) (by rw [Kd_nAy]; decide), Ln_nAy, Ai_nAy]) z1 o1 e1
    · exact hR.nAy (x := (N, .inl (fun _ => 0))) (by decide) (by decide) hN (by rw [encA_I (by rw [Kd_nAy]; decide) (by rw [Kd_nAy]; decide), Ln_nAy, Ai_nAy]) z1 o1 e1
  · exact hi.elim
theorem s_anew {c idx : Nat} {C : String} (hd : decode (Mc M) pc = .ok (.anewarray idx, 3)) (hc : c = 105 ∨ c = 106) (hty : aty c = .object C) (hw : Cond.classLink (My M).cls idx C ∈ lw_all) : Snd M pc (pc + 3) (i_newa c) := by
  intro G R d h0 O OX kn _ _ hkn l st h bc bs hi
  unfold i_newa at hi
  split at hi
  · rename_i n r
    obtain ⟨N, hn, hN, hbc, hbs, hi⟩ := hi
    intro p e s m args below meth cd ZZ F hRt hTt H locs cells slots ls hR hG hS hL h1 h2
    have hn0 : ¬ n < 0 := by rw [hn]; exact nI_pos (by omega)
    have hcl : n.toNatClampNeg = N := by rw [hn]; exact nI_clamp (by omega)
    have hover : va_AO C s := by
      have := F.hy.2.2.2.1
      rcases hc with rfl | rfl
      · cases hty; exact va_AO.moved F.warm.alike this.1
      · cases hty; exact va_AO.moved F.warm.alike this.2
    subst hcl
    refine W.anew F.hx F.hb F.own (F.ts _ hw) (va_AO.use hover) rfl hd rfl hn0 (by omega) (by omega) (by omega) fun cA kA comp f1 f2 f3 f4 => ?_
    generalize hH1 : H.push ({ cls := cA, slots := Array.replicate n.toNatClampNeg .null, vm := .none } : Cell) = H1
    have z1 : H1.size = H.size + 1 := by rw [← hH1, Array.size_push]
    have e1 : H1[H.size]? = some (arrV cA n.toNatClampNeg (fun _ => .null)) := by rw [← hH1, Array.getElem?_push_size, ← arrV_new]
    have o1 : ∀ q : Nat, q < H.size → H1[q]? = H[q]? := fun q hq => by rw [← hH1, Array.getElem?_push, if_neg (Nat.ne_of_lt hq)]
    have hca : cA = Gt G c := by
      have h9 := (F.K.2 _ _ (tys_at G c (by omega) (by omega))).2
      rw [hty] at h9
      obtain ⟨kA', comp', _, _, _, h10⟩ := h9
      exact Option.some.inj (f1.symm.trans h10)
    subst hca
    have hN9 := hR.1
    rw [hN9]
    refine hkn _ _ _ _ _ hi p e s m args below meth cd ZZ F hRt hTt H1 locs (cells + 1) (slots + n.toNatClampNeg) ls ?_ (hG.tr (Gro.more (c := c) rfl rfl)) ⟨Nat.le_trans hS.1 (by omega), fun x a1 a2 => (o1 x (Nat.lt_of_lt_of_le a1 hS.1)).trans (hS.2.1 x a1 a2), hS.2.2⟩ hL (by omega) (by omega)
    refine hR.nAy (x := (n.toNatClampNeg, .inr (.inr (.inr (.inr (fun _ => none)))))) (by omega) (by omega) hN (by rw [encA_R (by rw [Kd_nAy]; omega), Ln_nAy, Ar_nAy]) z1 o1 ?_
    show H1[H.size]? = some (vp_cell _ _)
    rw [vp_cell_q]
    exact e1
  · exact hi.elim
def i_new (c : Nat) : Tr := fun _ _ _ _ _ k l st h bc bs => 1 ≤ bc ∧ (flds c).length ≤ bs ∧ k l (.ref (Nx h) :: st) (nOb h c) (bc - 1) (bs - (flds c).length)
theorem enc_nOb {G : GG} {h : Hp} {c q : Nat} (hq : q ≠ Nx h) : enc G (nOb h c) q = enc G h q := enc_ne_A (by simp [nOb, Kd, up1, hq]) rfl rfl rfl rfl (fun g => by simp [fval, nOb, Fi, Fl, Fr, zr1, hq])
theorem Kd_nOb {h : Hp} {c : Nat} : Kd (nOb h c) (Nx h) = c := by simp [nOb, Kd, up1]
/-- what a class's objects begin with -/
def fDf (f : Nat) : Value := if fty f = 0 then .int 0 else if fty f = 1 then .long 0 else .null
theorem fval_nOb {h : Hp} {c f : Nat} : fval (nOb h c) f (Nx h) = fDf f := by
  simp [fval, fDf, nOb, Fi, Fl, Fr, zr1, va_rf]
theorem s_new {c idx : Nat} {T : u_T} {N : Nat} {C : String} (hd : decode (Mc M) pc = .ok (.new idx, 3)) (hc : vwCl[c - 1]? = some (C, T, N)) (hc0 : 1 ≤ c) (hc1 : c < 100) (hw : Cond.classLink (My M).cls idx C ∈ lw_all) (hw2 : Cond.instantiable C N ∈ lw_all) (hw3 : Cond.initialized C ∈ lw_all) (hdf : ∀ j, j < N → defaultValue (fdt ((flds c).getD j 0)) = fDf ((flds c).getD j 0)) : Snd M pc (pc + 3) (i_new c) := by
  intro G R d h0 O OX kn _ _ hkn l st h bc bs hi
  obtain ⟨hbc, hbs, hi⟩ := hi
  intro p e s m args below meth cd ZZ F hRt hTt H locs cells slots ls hR hG hS hL h1 h2
  have hcl := clF (c - 1) _ hc
  rw [show c - 1 + 1 = c by omega] at hcl
  have hcl1 : ∀ w ∈ u_ws C T N, w ∈ lw_all := hcl.1
  have hN : N = (flds c).length := hcl.2.1
  have hcl2 : ∀ k, k < N → parseFieldDescriptor (T k).2.2.1 = some (fdt ((flds c).getD k 0)) := hcl.2.2.2.1
  refine row_new (C := C) (T := T) (N := N) (fs := (flds c).map fDf) F.hx F.hb F.ts hcl1 _ hcl2 F.own (F.ts _ hw) (F.ts _ hw2) (F.ts _ hw3) F.K hc ?_ (by omega) (by omega) hd (fun H1 g1 g2 g3 => ?_)
  · intro j hj
    rw [hdf j hj]
    unfold vp_V
    have hj' : j < (flds c).length := by omega
    simp [List.getD, hj']
  · have hN9 := hR.1
    rw [hN9] at g1 ⊢
    rw [← hN] at hi
    refine hkn _ _ _ _ _ hi p e s m args below meth cd ZZ F hRt hTt H1 locs (cells + 1) (slots + N) ls ?_ (hG.tr (Gro.more (c := c) rfl rfl)) ⟨Nat.le_trans hS.1 (by omega), fun x a1 a2 => (g3 x (Nat.lt_of_lt_of_le a1 hS.1)).trans (hS.2.1 x a1 a2), hS.2.2⟩ hL (by omega) (by omega)
    refine hR.more (c := c) (by omega) g2 g3 rfl (fun q hq => rfl) (hR.2.2.2.2.2 _) rfl (fun q hq => enc_nOb hq) ?_ (fun q hq => rfl)
    rw [enc_obj (by rw [Kd_nOb]; exact hc1), Kd_nOb]
    have : encO (nOb h c) (Nx h) = (flds c).map fDf := by
      unfold encO
      rw [Kd_nOb]
      exact List.map_congr_left (fun f _ => fval_nOb)
    rw [this]
    exact g1
end Arr
