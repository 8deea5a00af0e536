set_option maxRecDepth 100000
theorem setA_ne {T : Tw} {a b i j : Nat} {v : Int32} (h : ¬ (b = a ∧ j = i)) : (setA T a i v).2 b j = T.2 b j := by show up2 T.2 a i v b j = _; rw [up2_ap, if_neg h]
theorem setA_eq {T : Tw} {a i : Nat} {v : Int32} : (setA T a i v).2 a i = v := by show up2 T.2 a i v a i = _; rw [up2_ap, if_pos ⟨rfl, rfl⟩]
theorem setA_nf {T : Tw} {a b i : Nat} {v : Int32} (h : b ≠ a) : (setA T a i v).2 b = T.2 b := funext fun j => setA_ne (fun q => h q.1)
theorem TOK.set_day {T : Tw} {s n k i : Nat} {v : Int32} (t : TOK T s n k) (hv : Rg 0 99 v) : TOK (setA T 6 i v) s n k := by
  obtain ⟨t1, t2, t3, t4, t5, t6, t7⟩ := t
  refine ⟨t1, t2, t3, t4, fun j hj => ?_, fun j hj => ?_, fun j hj => ?_⟩
  · rw [setA_nf (by decide), setA_nf (by decide)]; exact t5 j hj
  · rw [setA_nf (by decide), setA_nf (by decide)]; exact t6 j hj
  · have g := t7 j hj
    unfold HOK at g ⊢
    rw [setA_nf (b := 4) (by decide), setA_nf (b := 5) (by decide), setA_nf (b := 7) (by decide), setA_nf (b := 8) (by decide), setA_nf (b := 9) (by decide), setA_nf (b := 10) (by decide), setA_nf (b := 11) (by decide), setA_nf (b := 12) (by decide)]
    by_cases e : j = i
    · subst e
      rw [setA_eq]
      obtain ⟨g4, g5, g6, g7, g8, g9, g10, g11, g12⟩ := g
      exact ⟨g4, g5, hv, g7, g8, g9, g10, g11, g12⟩
    · rw [setA_ne (fun q => e q.2)]; exact g
theorem MTw.set_day {m : Nat} {h : Hp} {T : Tw} {s n k i : Nat} {v : Int32} (t : MTw m h T s n k) (hv : Rg 0 99 v) : MTw m (sAi h (m + 8) i v) (setA T 6 i v) s n k := by
  refine ⟨t.1.set_day hv, t.2.1, fun b j hb hj => ?_⟩
  show up2 (Ai h) (m + 8) i v (m + (2 + b)) j = up2 T.2 6 i v b j
  rw [up2_ap, up2_ap]
  by_cases e : b = 6 ∧ j = i
  · rw [if_pos e, if_pos ⟨by omega, e.2⟩]
  · rw [if_neg e, if_neg (fun q => e ⟨by omega, q.2⟩)]; exact t.2.2 b j hb hj
theorem MRep.set_day {m : Nat} {h : Hp} {σ : Sg} {i s n k : Nat} {v : Int32} (r : MRep m h σ) (t : MTw m h (gT σ) s n k) (hv : Rg 0 99 v) : MRep m (sAi h (m + 8) i v) (setA σ.1 6 i v, σ.2) := by
  obtain ⟨r1, -, r3, r4, r5, r6, r7, r8, r9, r10⟩ := r
  refine ⟨r1, ⟨s, n, k, t.set_day hv⟩, fun i hi => ?_, fun a i ha hi => ?_, r5, r6, fun i hi => ?_, ?_, fun i hi => ?_, r10⟩
  · rw [Ai_sAi_ne (by omega)]; exact r3 i hi
  · rw [Ai_sAi_ne (by omega)]; exact r4 a i ha hi
  · rw [Ai_sAi_ne (by omega)]; exact r7 i hi
  · rw [Ai_sAi_ne (by omega)]; exact r8
  · rw [Ai_sAi_ne (by omega)]; exact r9 i hi
theorem TOK.set_night {T : Tw} {s n k i : Nat} {v : Int32} (t : TOK T s n k) (hv : Rg 0 99 v) : TOK (setA T 7 i v) s n k := by
  obtain ⟨t1, t2, t3, t4, t5, t6, t7⟩ := t
  refine ⟨t1, t2, t3, t4, fun j hj => ?_, fun j hj => ?_, fun j hj => ?_⟩
  · rw [setA_nf (by decide), setA_nf (by decide)]; exact t5 j hj
  · rw [setA_nf (by decide), setA_nf (by decide)]; exact t6 j hj
  · have g := t7 j hj
    unfold HOK at g ⊢
    rw [setA_nf (b := 4) (by decide), setA_nf (b := 5) (by decide), setA_nf (b := 6) (by decide), setA_nf (b := 8) (by decide), setA_nf (b := 9) (by decide), setA_nf (b := 10) (by decide), setA_nf (b := 11) (by decide), setA_nf (b := 12) (by decide)]
    by_cases e : j = i
    · subst e
      rw [setA_eq]
      obtain ⟨g4, g5, g6, g7, g8, g9, g10, g11, g12⟩ := g
      exact ⟨g4, g5, g6, hv, g8, g9, g10, g11, g12⟩
    · rw [setA_ne (fun q => e q.2)]; exact g
theorem MTw.set_night {m : Nat} {h : Hp} {T : Tw} {s n k i : Nat} {v : Int32} (t : MTw m h T s n k) (hv : Rg 0 99 v) : MTw m (sAi h (m + 9) i v) (setA T 7 i v) s n k := by
  refine ⟨t.1.set_night hv, t.2.1, fun b j hb hj => ?_⟩
  show up2 (Ai h) (m + 9) i v (m + (2 + b)) j = up2 T.2 7 i v b j
  rw [up2_ap, up2_ap]
  by_cases e : b = 7 ∧ j = i
  · rw [if_pos e, if_pos ⟨by omega, e.2⟩]
  · rw [if_neg e, if_neg (fun q => e ⟨by omega, q.2⟩)]; exact t.2.2 b j hb hj
theorem MRep.set_night {m : Nat} {h : Hp} {σ : Sg} {i s n k : Nat} {v : Int32} (r : MRep m h σ) (t : MTw m h (gT σ) s n k) (hv : Rg 0 99 v) : MRep m (sAi h (m + 9) i v) (setA σ.1 7 i v, σ.2) := by
  obtain ⟨r1, -, r3, r4, r5, r6, r7, r8, r9, r10⟩ := r
  refine ⟨r1, ⟨s, n, k, t.set_night hv⟩, fun i hi => ?_, fun a i ha hi => ?_, r5, r6, fun i hi => ?_, ?_, fun i hi => ?_, r10⟩
  · rw [Ai_sAi_ne (by omega)]; exact r3 i hi
  · rw [Ai_sAi_ne (by omega)]; exact r4 a i ha hi
  · rw [Ai_sAi_ne (by omega)]; exact r7 i hi
  · rw [Ai_sAi_ne (by omega)]; exact r8
  · rw [Ai_sAi_ne (by omega)]; exact r9 i hi
theorem TOK.set_front {T : Tw} {s n k i : Nat} {v : Int32} (t : TOK T s n k) (hv : Rg (-1) ((s : Int) - 1) v) : TOK (setA T 9 i v) s n k := by
  obtain ⟨t1, t2, t3, t4, t5, t6, t7⟩ := t
  refine ⟨t1, t2, t3, t4, fun j hj => ?_, fun j hj => ?_, fun j hj => ?_⟩
  · rw [setA_nf (by decide), setA_nf (by decide)]; exact t5 j hj
  · rw [setA_nf (by decide), setA_nf (by decide)]; exact t6 j hj
  · have g := t7 j hj
    unfold HOK at g ⊢
    rw [setA_nf (b := 4) (by decide), setA_nf (b := 5) (by decide), setA_nf (b := 6) (by decide), setA_nf (b := 7) (by decide), setA_nf (b := 8) (by decide), setA_nf (b := 10) (by decide), setA_nf (b := 11) (by decide), setA_nf (b := 12) (by decide)]
    by_cases e : j = i
    · subst e
      rw [setA_eq]
      obtain ⟨g4, g5, g6, g7, g8, g9, g10, g11, g12⟩ := g
      exact ⟨g4, g5, g6, g7, g8, hv, g10, g11, g12⟩
    · rw [setA_ne (fun q => e q.2)]; exact g
theorem MTw.set_front {m : Nat} {h : Hp} {T : Tw} {s n k i : Nat} {v : Int32} (t : MTw m h T s n k) (hv : Rg (-1) ((s : Int) - 1) v) : MTw m (sAi h (m + 11) i v) (setA T 9 i v) s n k := by
  refine ⟨t.1.set_front hv, t.2.1, fun b j hb hj => ?_⟩
  show up2 (Ai h) (m + 11) i v (m + (2 + b)) j = up2 T.2 9 i v b j
  rw [up2_ap, up2_ap]
  by_cases e : b = 9 ∧ j = i
  · rw [if_pos e, if_pos ⟨by omega, e.2⟩]
  · rw [if_neg e, if_neg (fun q => e ⟨by omega, q.2⟩)]; exact t.2.2 b j hb hj
theorem MRep.set_front {m : Nat} {h : Hp} {σ : Sg} {i s n k : Nat} {v : Int32} (r : MRep m h σ) (t : MTw m h (gT σ) s n k) (hv : Rg (-1) ((s : Int) - 1) v) : MRep m (sAi h (m + 11) i v) (setA σ.1 9 i v, σ.2) := by
  obtain ⟨r1, -, r3, r4, r5, r6, r7, r8, r9, r10⟩ := r
  refine ⟨r1, ⟨s, n, k, t.set_front hv⟩, fun i hi => ?_, fun a i ha hi => ?_, r5, r6, fun i hi => ?_, ?_, fun i hi => ?_, r10⟩
  · rw [Ai_sAi_ne (by omega)]; exact r3 i hi
  · rw [Ai_sAi_ne (by omega)]; exact r4 a i ha hi
  · rw [Ai_sAi_ne (by omega)]; exact r7 i hi
  · rw [Ai_sAi_ne (by omega)]; exact r8
  · rw [Ai_sAi_ne (by omega)]; exact r9 i hi
theorem TOK.set_next {T : Tw} {s n k i : Nat} {v : Int32} (t : TOK T s n k) (hv : Rg (-1) ((n : Int) - 1) v) : TOK (setA T 10 i v) s n k := by
  obtain ⟨t1, t2, t3, t4, t5, t6, t7⟩ := t
  refine ⟨t1, t2, t3, t4, fun j hj => ?_, fun j hj => ?_, fun j hj => ?_⟩
  · rw [setA_nf (by decide), setA_nf (by decide)]; exact t5 j hj
  · rw [setA_nf (by decide), setA_nf (by decide)]; exact t6 j hj
  · have g := t7 j hj
    unfold HOK at g ⊢
    rw [setA_nf (b := 4) (by decide), setA_nf (b := 5) (by decide), setA_nf (b := 6) (by decide), setA_nf (b := 7) (by decide), setA_nf (b := 8) (by decide), setA_nf (b := 9) (by decide), setA_nf (b := 11) (by decide), setA_nf (b := 12) (by decide)]
    by_cases e : j = i
    · subst e
      rw [setA_eq]
      obtain ⟨g4, g5, g6, g7, g8, g9, g10, g11, g12⟩ := g
      exact ⟨g4, g5, g6, g7, g8, g9, hv, g11, g12⟩
    · rw [setA_ne (fun q => e q.2)]; exact g
theorem MTw.set_next {m : Nat} {h : Hp} {T : Tw} {s n k i : Nat} {v : Int32} (t : MTw m h T s n k) (hv : Rg (-1) ((n : Int) - 1) v) : MTw m (sAi h (m + 12) i v) (setA T 10 i v) s n k := by
  refine ⟨t.1.set_next hv, t.2.1, fun b j hb hj => ?_⟩
  show up2 (Ai h) (m + 12) i v (m + (2 + b)) j = up2 T.2 10 i v b j
  rw [up2_ap, up2_ap]
  by_cases e : b = 10 ∧ j = i
  · rw [if_pos e, if_pos ⟨by omega, e.2⟩]
  · rw [if_neg e, if_neg (fun q => e ⟨by omega, q.2⟩)]; exact t.2.2 b j hb hj
theorem MRep.set_next {m : Nat} {h : Hp} {σ : Sg} {i s n k : Nat} {v : Int32} (r : MRep m h σ) (t : MTw m h (gT σ) s n k) (hv : Rg (-1) ((n : Int) - 1) v) : MRep m (sAi h (m + 12) i v) (setA σ.1 10 i v, σ.2) := by
  obtain ⟨r1, -, r3, r4, r5, r6, r7, r8, r9, r10⟩ := r
  refine ⟨r1, ⟨s, n, k, t.set_next hv⟩, fun i hi => ?_, fun a i ha hi => ?_, r5, r6, fun i hi => ?_, ?_, fun i hi => ?_, r10⟩
  · rw [Ai_sAi_ne (by omega)]; exact r3 i hi
  · rw [Ai_sAi_ne (by omega)]; exact r4 a i ha hi
  · rw [Ai_sAi_ne (by omega)]; exact r7 i hi
  · rw [Ai_sAi_ne (by omega)]; exact r8
  · rw [Ai_sAi_ne (by omega)]; exact r9 i hi
theorem TOK.set_steps {T : Tw} {s n k i : Nat} {v : Int32} (t : TOK T s n k) (hv : Rg 0 2 v) : TOK (setA T 11 i v) s n k := by
  obtain ⟨t1, t2, t3, t4, t5, t6, t7⟩ := t
  refine ⟨t1, t2, t3, t4, fun j hj => ?_, fun j hj => ?_, fun j hj => ?_⟩
  · rw [setA_nf (by decide), setA_nf (by decide)]; exact t5 j hj
  · rw [setA_nf (by decide), setA_nf (by decide)]; exact t6 j hj
  · have g := t7 j hj
    unfold HOK at g ⊢
    rw [setA_nf (b := 4) (by decide), setA_nf (b := 5) (by decide), setA_nf (b := 6) (by decide), setA_nf (b := 7) (by decide), setA_nf (b := 8) (by decide), setA_nf (b := 9) (by decide), setA_nf (b := 10) (by decide), setA_nf (b := 12) (by decide)]
    by_cases e : j = i
    · subst e
      rw [setA_eq]
      obtain ⟨g4, g5, g6, g7, g8, g9, g10, g11, g12⟩ := g
      exact ⟨g4, g5, g6, g7, g8, g9, g10, hv, g12⟩
    · rw [setA_ne (fun q => e q.2)]; exact g
theorem MTw.set_steps {m : Nat} {h : Hp} {T : Tw} {s n k i : Nat} {v : Int32} (t : MTw m h T s n k) (hv : Rg 0 2 v) : MTw m (sAi h (m + 13) i v) (setA T 11 i v) s n k := by
  refine ⟨t.1.set_steps hv, t.2.1, fun b j hb hj => ?_⟩
  show up2 (Ai h) (m + 13) i v (m + (2 + b)) j = up2 T.2 11 i v b j
  rw [up2_ap, up2_ap]
  by_cases e : b = 11 ∧ j = i
  · rw [if_pos e, if_pos ⟨by omega, e.2⟩]
  · rw [if_neg e, if_neg (fun q => e ⟨by omega, q.2⟩)]; exact t.2.2 b j hb hj
theorem MRep.set_steps {m : Nat} {h : Hp} {σ : Sg} {i s n k : Nat} {v : Int32} (r : MRep m h σ) (t : MTw m h (gT σ) s n k) (hv : Rg 0 2 v) : MRep m (sAi h (m + 13) i v) (setA σ.1 11 i v, σ.2) := by
  obtain ⟨r1, -, r3, r4, r5, r6, r7, r8, r9, r10⟩ := r
  refine ⟨r1, ⟨s, n, k, t.set_steps hv⟩, fun i hi => ?_, fun a i ha hi => ?_, r5, r6, fun i hi => ?_, ?_, fun i hi => ?_, r10⟩
  · rw [Ai_sAi_ne (by omega)]; exact r3 i hi
  · rw [Ai_sAi_ne (by omega)]; exact r4 a i ha hi
  · rw [Ai_sAi_ne (by omega)]; exact r7 i hi
  · rw [Ai_sAi_ne (by omega)]; exact r8
  · rw [Ai_sAi_ne (by omega)]; exact r9 i hi
theorem TOK.set_propped {T : Tw} {s n k i : Nat} {v : Int32} (t : TOK T s n k) (hv : Rg 0 1 v) : TOK (setA T 12 i v) s n k := by
  obtain ⟨t1, t2, t3, t4, t5, t6, t7⟩ := t
  refine ⟨t1, t2, t3, t4, fun j hj => ?_, fun j hj => ?_, fun j hj => ?_⟩
  · rw [setA_nf (by decide), setA_nf (by decide)]; exact t5 j hj
  · rw [setA_nf (by decide), setA_nf (by decide)]; exact t6 j hj
  · have g := t7 j hj
    unfold HOK at g ⊢
    rw [setA_nf (b := 4) (by decide), setA_nf (b := 5) (by decide), setA_nf (b := 6) (by decide), setA_nf (b := 7) (by decide), setA_nf (b := 8) (by decide), setA_nf (b := 9) (by decide), setA_nf (b := 10) (by decide), setA_nf (b := 11) (by decide)]
    by_cases e : j = i
    · subst e
      rw [setA_eq]
      obtain ⟨g4, g5, g6, g7, g8, g9, g10, g11, g12⟩ := g
      exact ⟨g4, g5, g6, g7, g8, g9, g10, g11, hv⟩
    · rw [setA_ne (fun q => e q.2)]; exact g
theorem MTw.set_propped {m : Nat} {h : Hp} {T : Tw} {s n k i : Nat} {v : Int32} (t : MTw m h T s n k) (hv : Rg 0 1 v) : MTw m (sAi h (m + 14) i v) (setA T 12 i v) s n k := by
  refine ⟨t.1.set_propped hv, t.2.1, fun b j hb hj => ?_⟩
  show up2 (Ai h) (m + 14) i v (m + (2 + b)) j = up2 T.2 12 i v b j
  rw [up2_ap, up2_ap]
  by_cases e : b = 12 ∧ j = i
  · rw [if_pos e, if_pos ⟨by omega, e.2⟩]
  · rw [if_neg e, if_neg (fun q => e ⟨by omega, q.2⟩)]; exact t.2.2 b j hb hj
theorem MRep.set_propped {m : Nat} {h : Hp} {σ : Sg} {i s n k : Nat} {v : Int32} (r : MRep m h σ) (t : MTw m h (gT σ) s n k) (hv : Rg 0 1 v) : MRep m (sAi h (m + 14) i v) (setA σ.1 12 i v, σ.2) := by
  obtain ⟨r1, -, r3, r4, r5, r6, r7, r8, r9, r10⟩ := r
  refine ⟨r1, ⟨s, n, k, t.set_propped hv⟩, fun i hi => ?_, fun a i ha hi => ?_, r5, r6, fun i hi => ?_, ?_, fun i hi => ?_, r10⟩
  · rw [Ai_sAi_ne (by omega)]; exact r3 i hi
  · rw [Ai_sAi_ne (by omega)]; exact r4 a i ha hi
  · rw [Ai_sAi_ne (by omega)]; exact r7 i hi
  · rw [Ai_sAi_ne (by omega)]; exact r8
  · rw [Ai_sAi_ne (by omega)]; exact r9 i hi
