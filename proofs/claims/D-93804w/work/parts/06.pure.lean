set_option maxRecDepth 100000
section Pure
variable {M : MR} {pc : Nat}
def i_const (v : Int32) : Tr := fun _ _ _ _ _ k l st h bc bs => k l (.int v :: st) h bc bs
def i_lconst (v : Int64) : Tr := fun _ _ _ _ _ k l st h bc bs => k l (.long v :: st) h bc bs
def i_null : Tr := fun _ _ _ _ _ k l st h bc bs => k l (.null :: st) h bc bs
theorem s_iconst {n : Int} {v : Int32} (hd : decode (Mc M) pc = .ok (.iconst n, 1)) (hv : Int32.ofInt n = v) : Snd M pc (pc + 1) (i_const v) := by
  intro G R d h0 O OX kn _ _ hk l st h bc bs hi
  exact WW.st (fun p e s m args below meth c ZZ H locs cells slots ls hx hb hL k => lv_iconst hx hb hd hv k) (hk _ _ _ _ _ hi)
theorem s_bipush {n : Int} {v : Int32} (hd : decode (Mc M) pc = .ok (.bipush n, 2)) (hv : (Int8.ofInt n).toInt32 = v) : Snd M pc (pc + 2) (i_const v) := by
  intro G R d h0 O OX kn _ _ hk l st h bc bs hi
  exact WW.st (fun p e s m args below meth c ZZ H locs cells slots ls hx hb hL k => lv_bipush hx hb hd hv k) (hk _ _ _ _ _ hi)
theorem s_sipush {n : Int} {v : Int32} (hd : decode (Mc M) pc = .ok (.sipush n, 3)) (hv : (Int16.ofInt n).toInt32 = v) : Snd M pc (pc + 3) (i_const v) := by
  intro G R d h0 O OX kn _ _ hk l st h bc bs hi
  exact WW.st (fun p e s m args below meth c ZZ H locs cells slots ls hx hb hL k => lv_sipush hx hb hd hv k) (hk _ _ _ _ _ hi)
theorem s_lconst {n : Fin 2} {v : Int64} (hd : decode (Mc M) pc = .ok (.lconst n, 1)) (hv : Int64.ofNat (n : Nat) = v) : Snd M pc (pc + 1) (i_lconst v) := by
  intro G R d h0 O OX kn _ _ hk l st h bc bs hi
  exact WW.st (fun p e s m args below meth c ZZ H locs cells slots ls hx hb hL k => lv_lconst hx hb hd hv k) (hk _ _ _ _ _ hi)
theorem s_null (hd : decode (Mc M) pc = .ok (.aconst_null, 1)) : Snd M pc (pc + 1) i_null := by
  intro G R d h0 O OX kn _ _ hk l st h bc bs hi
  exact WW.st (fun p e s m args below meth c ZZ H locs cells slots ls hx hb hL k => lv_null hx hb hd k) (hk _ _ _ _ _ hi)
theorem s_ldc {n : Nat} {v : Int32} (hd : decode (Mc M) pc = .ok (.ldc n, 2)) (hw : Cond.constant (My M).cls n v ∈ lw_all) : Snd M pc (pc + 2) (i_const v) := by
  intro G R d h0 O OX kn _ _ hk l st h bc bs hi
  refine WW.go (fun p e s m args below meth c ZZ H locs cells slots ls F hx hb hL k => lv_ldc hx hb F.2.2.2.2.2.1 (F.2.2.2.2.2.2.1 _ hw) hd (k ls hL)) (hk _ _ _ _ _ hi)
theorem s_ldc2 {n : Nat} {v : Int64} (hd : decode (Mc M) pc = .ok (.ldc2_w n, 3)) (hw : Cond.constantLong (My M).cls n v ∈ lw_all) : Snd M pc (pc + 3) (i_lconst v) := by
  intro G R d h0 O OX kn _ _ hk l st h bc bs hi
  refine WW.go (fun p e s m args below meth c ZZ H locs cells slots ls F hx hb hL k => lv_ldc2 hx hb F.2.2.2.2.2.1 (F.2.2.2.2.2.2.1 _ hw) hd (k ls hL)) (hk _ _ _ _ _ hi)
theorem W.ldcw_ {p : Program} {l : Launch} {e : Env} {R : Room} {s : State} {m : MethodId} {args : Array Value} {below : List Frame} {meth : Method} {c : Code} {H : Heap} {locs : List Loc} {cells slots : Nat} {Q : State → Prop} {cc : ByteArray} {pc : Nat} {ls : Array Slot} {rest : List Value} (hexec : p.tables.exec = Jvm.exec) (hb : c.code = cc) {own : String} {index : Nat} {v : Int32} (hown : s.vm.findClass own = some m.cls) (hconst : (Jvm.Cond.constant own index v).before args s = true) (hdg : decode cc pc = .ok (.ldc_w index, 3)) (k : W p l e R s m args below meth c H locs cells slots Q (F0 m (pc + 3) ls (.int v :: rest))) : W p l e R s m args below meth c H locs cells slots Q (F0 m pc ls rest) := by
  intro T hT X
  obtain ⟨t, st, q⟩ := k T hT X
  exact ⟨t, va_ldcwI X hexec hown hconst (g := F0 m pc ls rest) rfl (by rw [hb]; exact hdg) t st, q⟩
theorem s_ldcw {n : Nat} {v : Int32} (hd : decode (Mc M) pc = .ok (.ldc_w n, 3)) (hw : Cond.constant (My M).cls n v ∈ lw_all) : Snd M pc (pc + 3) (i_const v) := by
  intro G R d h0 O OX kn _ _ hk l st h bc bs hi
  refine WW.go (fun p e s m args below meth c ZZ H locs cells slots ls F hx hb hL k => W.ldcw_ hx hb F.2.2.2.2.2.1 (F.2.2.2.2.2.2.1 _ hw) hd (k ls hL)) (hk _ _ _ _ _ hi)
def i_iload (n : Nat) : Tr := fun _ _ _ _ _ k l st h bc bs => match lg l n with
  | .int x => k l (.int x :: st) h bc bs
  | _ => False
theorem s_iload1 {n4 : Fin 4} {n : Nat} (hd : decode (Mc M) pc = .ok (.iload_n n4, 1)) (hn : (n4 : Nat) = n) : Snd M pc (pc + 1) (i_iload n) := by
  intro G R d h0 O OX kn _ _ hk l st h bc bs hi
  unfold i_iload at hi
  split at hi
  · rename_i x hx9
    exact WW.st (fun p e s m args below meth c ZZ H locs cells slots ls hx hb hL k => lv_iload_n hx hb hd hn (hL.at hx9 rfl) k) (hk _ _ _ _ _ hi)
  · exact hi.elim
theorem s_iload2 {n : Nat} (hd : decode (Mc M) pc = .ok (.iload n, 2)) : Snd M pc (pc + 2) (i_iload n) := by
  intro G R d h0 O OX kn _ _ hk l st h bc bs hi
  unfold i_iload at hi
  split at hi
  · rename_i x hx9
    exact WW.st (fun p e s m args below meth c ZZ H locs cells slots ls hx hb hL k => lv_iload hx hb hd (hL.at hx9 rfl) k) (hk _ _ _ _ _ hi)
  · exact hi.elim
def i_lload (n : Nat) : Tr := fun _ _ _ _ _ k l st h bc bs => match lg l n with
  | .long x => k l (.long x :: st) h bc bs
  | _ => False
theorem s_lload1 {n4 : Fin 4} {n : Nat} (hd : decode (Mc M) pc = .ok (.lload_n n4, 1)) (hn : (n4 : Nat) = n) : Snd M pc (pc + 1) (i_lload n) := by
  intro G R d h0 O OX kn _ _ hk l st h bc bs hi
  unfold i_lload at hi
  split at hi
  · rename_i x hx9
    exact WW.st (fun p e s m args below meth c ZZ H locs cells slots ls hx hb hL k => lv_lload_n hx hb hd hn (hL.at hx9 rfl) k) (hk _ _ _ _ _ hi)
  · exact hi.elim
theorem s_lload2 {n : Nat} (hd : decode (Mc M) pc = .ok (.lload n, 2)) : Snd M pc (pc + 2) (i_lload n) := by
  intro G R d h0 O OX kn _ _ hk l st h bc bs hi
  unfold i_lload at hi
  split at hi
  · rename_i x hx9
    exact WW.st (fun p e s m args below meth c ZZ H locs cells slots ls hx hb hL k => lv_lload hx hb hd (hL.at hx9 rfl) k) (hk _ _ _ _ _ hi)
  · exact hi.elim
def i_aload (n : Nat) : Tr := fun _ _ _ _ _ k l st h bc bs => match lg l n with
  | .ref x => k l (.ref x :: st) h bc bs
  | .null => k l (.null :: st) h bc bs
  | _ => False
theorem s_aload1 {n4 : Fin 4} {n : Nat} (hd : decode (Mc M) pc = .ok (.aload_n n4, 1)) (hn : (n4 : Nat) = n) : Snd M pc (pc + 1) (i_aload n) := by
  intro G R d h0 O OX kn _ _ hk l st h bc bs hi
  unfold i_aload at hi
  split at hi
  · rename_i x hx9
    exact WW.st (fun p e s m args below meth c ZZ H locs cells slots ls hx hb hL k => lv_aload_n hx hb hd hn (hL.at hx9 rfl) k) (hk _ _ _ _ _ hi)
  · rename_i hx9
    exact WW.st (fun p e s m args below meth c ZZ H locs cells slots ls hx hb hL k => lv_aload_nN hx hb hd hn (hL.at hx9 rfl) k) (hk _ _ _ _ _ hi)
  · exact hi.elim
theorem s_aload2 {n : Nat} (hd : decode (Mc M) pc = .ok (.aload n, 2)) : Snd M pc (pc + 2) (i_aload n) := by
  intro G R d h0 O OX kn _ _ hk l st h bc bs hi
  unfold i_aload at hi
  split at hi
  · rename_i x hx9
    exact WW.st (fun p e s m args below meth c ZZ H locs cells slots ls hx hb hL k => lv_aload hx hb hd (hL.at hx9 rfl) k) (hk _ _ _ _ _ hi)
  · rename_i hx9
    exact WW.st (fun p e s m args below meth c ZZ H locs cells slots ls hx hb hL k => lv_aloadN hx hb hd (hL.at hx9 rfl) k) (hk _ _ _ _ _ hi)
  · exact hi.elim
def i_istore (n : Nat) : Tr := fun _ _ _ _ _ k l st h bc bs => match st with
  | .int x :: r => k (st1 l n (.int x)) r h bc bs
  | _ => False
def i_lstore (n : Nat) : Tr := fun _ _ _ _ _ k l st h bc bs => match st with
  | .long x :: r => k (st2 l n (.long x)) r h bc bs
  | _ => False
def i_astore (n : Nat) : Tr := fun _ _ _ _ _ k l st h bc bs => match st with
  | .ref x :: r => k (st1 l n (.ref x)) r h bc bs
  | .null :: r => k (st1 l n .null) r h bc bs
  | _ => False
theorem s_istore1 {n4 : Fin 4} {n : Nat} (hd : decode (Mc M) pc = .ok (.istore_n n4, 1)) (hn : (n4 : Nat) = n) (hm : n < Ml M) : Snd M pc (pc + 1) (i_istore n) := by
  intro G R d h0 O OX kn _ _ hk l st h bc bs hi
  unfold i_istore at hi
  split at hi
  · exact WW.go (fun p e s m args below meth c ZZ H locs cells slots ls F hx hb hL k => lv_istore_n hx hb hd hn hL hm rfl (fun ls' h' => k ls' (LH.st1 h'))) (hk _ _ _ _ _ hi)
  · exact hi.elim
theorem s_istore2 {n : Nat} (hd : decode (Mc M) pc = .ok (.istore n, 2)) (hm : n < Ml M) : Snd M pc (pc + 2) (i_istore n) := by
  intro G R d h0 O OX kn _ _ hk l st h bc bs hi
  unfold i_istore at hi
  split at hi
  · exact WW.go (fun p e s m args below meth c ZZ H locs cells slots ls F hx hb hL k => lv_istore hx hb hd hL hm rfl (fun ls' h' => k ls' (LH.st1 h'))) (hk _ _ _ _ _ hi)
  · exact hi.elim
theorem s_lstore1 {n4 : Fin 4} {n : Nat} (hd : decode (Mc M) pc = .ok (.lstore_n n4, 1)) (hn : (n4 : Nat) = n) (hm : n + 1 < Ml M) : Snd M pc (pc + 1) (i_lstore n) := by
  intro G R d h0 O OX kn _ _ hk l st h bc bs hi
  unfold i_lstore at hi
  split at hi
  · exact WW.go (fun p e s m args below meth c ZZ H locs cells slots ls F hx hb hL k => lv_lstore_n hx hb hd hn hL hm rfl (fun ls' h' => k ls' (LH.st2 h'))) (hk _ _ _ _ _ hi)
  · exact hi.elim
theorem s_lstore2 {n : Nat} (hd : decode (Mc M) pc = .ok (.lstore n, 2)) (hm : n + 1 < Ml M) : Snd M pc (pc + 2) (i_lstore n) := by
  intro G R d h0 O OX kn _ _ hk l st h bc bs hi
  unfold i_lstore at hi
  split at hi
  · exact WW.go (fun p e s m args below meth c ZZ H locs cells slots ls F hx hb hL k => lv_lstore hx hb hd hL hm rfl (fun ls' h' => k ls' (LH.st2 h'))) (hk _ _ _ _ _ hi)
  · exact hi.elim
theorem s_astore1 {n4 : Fin 4} {n : Nat} (hd : decode (Mc M) pc = .ok (.astore_n n4, 1)) (hn : (n4 : Nat) = n) (hm : n < Ml M) : Snd M pc (pc + 1) (i_astore n) := by
  intro G R d h0 O OX kn _ _ hk l st h bc bs hi
  unfold i_astore at hi
  split at hi
  · exact WW.go (fun p e s m args below meth c ZZ H locs cells slots ls F hx hb hL k => lv_astore_n hx hb hd hn hL hm rfl (fun ls' h' => k ls' (LH.st1 h'))) (hk _ _ _ _ _ hi)
  · exact WW.go (fun p e s m args below meth c ZZ H locs cells slots ls F hx hb hL k => lv_astore_nN hx hb hd hn hL hm rfl (fun ls' h' => k ls' (LH.st1 h'))) (hk _ _ _ _ _ hi)
  · exact hi.elim
theorem s_astore2 {n : Nat} (hd : decode (Mc M) pc = .ok (.astore n, 2)) (hm : n < Ml M) : Snd M pc (pc + 2) (i_astore n) := by
  intro G R d h0 O OX kn _ _ hk l st h bc bs hi
  unfold i_astore at hi
  split at hi
  · exact WW.go (fun p e s m args below meth c ZZ H locs cells slots ls F hx hb hL k => lv_astore hx hb hd hL hm rfl (fun ls' h' => k ls' (LH.st1 h'))) (hk _ _ _ _ _ hi)
  · exact WW.go (fun p e s m args below meth c ZZ H locs cells slots ls F hx hb hL k => lv_astoreN hx hb hd hL hm rfl (fun ls' h' => k ls' (LH.st1 h'))) (hk _ _ _ _ _ hi)
  · exact hi.elim
def i_iinc (n : Nat) (v : Int32) : Tr := fun _ _ _ _ _ k l st h bc bs => match lg l n with
  | .int x => k (st1 l n (.int (x + v))) st h bc bs
  | _ => False
theorem s_iinc {n : Nat} {z : Int} {v : Int32} (hd : decode (Mc M) pc = .ok (.iinc n z, 3)) (hv : Int32.ofInt z = v) (hm : n < Ml M) : Snd M pc (pc + 3) (i_iinc n v) := by
  intro G R d h0 O OX kn _ _ hk l st h bc bs hi
  unfold i_iinc at hi
  split at hi
  · rename_i x hx9
    subst hv
    have hmem := prs_lg l 0 n _ hx9 rfl
    rw [Nat.zero_add] at hmem
    obtain ⟨j, hj⟩ := List.getElem?_of_mem hmem
    exact WW.go (fun p e s m args below meth c ZZ H locs cells slots ls F hx hb hL k => lv_iinc hx hb hd hL (k := j) hj rfl hm rfl (fun ls' h' => k ls' (LH.st1 h'))) (hk _ _ _ _ _ hi)
  · exact hi.elim
def i_bin (f : Int32 → Int32 → Int32) : Tr := fun _ _ _ _ _ k l st h bc bs => match st with
  | .int y :: .int x :: r => k l (.int (f x y) :: r) h bc bs
  | _ => False
def i_binz (f : Int32 → Int32 → Int32) : Tr := fun _ _ _ _ _ k l st h bc bs => match st with
  | .int y :: .int x :: r => ¬ y = 0 ∧ k l (.int (f x y) :: r) h bc bs
  | _ => False
def i_lbin (f : Int64 → Int64 → Int64) : Tr := fun _ _ _ _ _ k l st h bc bs => match st with
  | .long y :: .long x :: r => k l (.long (f x y) :: r) h bc bs
  | _ => False
def i_lbinz (f : Int64 → Int64 → Int64) : Tr := fun _ _ _ _ _ k l st h bc bs => match st with
  | .long y :: .long x :: r => ¬ y = 0 ∧ k l (.long (f x y) :: r) h bc bs
  | _ => False
def i_un (f : Int32 → Int32) : Tr := fun _ _ _ _ _ k l st h bc bs => match st with
  | .int x :: r => k l (.int (f x) :: r) h bc bs
  | _ => False
def i_i2l : Tr := fun _ _ _ _ _ k l st h bc bs => match st with
  | .int x :: r => k l (.long x.toInt64 :: r) h bc bs
  | _ => False
def i_l2i : Tr := fun _ _ _ _ _ k l st h bc bs => match st with
  | .long x :: r => k l (.int x.toInt32 :: r) h bc bs
  | _ => False
def i_lshl : Tr := fun _ _ _ _ _ k l st h bc bs => match st with
  | .int y :: .long x :: r => k l (.long (x <<< (y.toInt64 &&& 63)) :: r) h bc bs
  | _ => False
def i_lcmp : Tr := fun _ _ _ _ _ k l st h bc bs => match st with
  | .long y :: .long x :: r => k l (.int (lg_cmp x y) :: r) h bc bs
  | _ => False
theorem s_iadd (hd : decode (Mc M) pc = .ok (.iadd, 1)) : Snd M pc (pc + 1) (i_bin (fun x y => x + y)) := by
  intro G R d h0 O OX kn _ _ hk l st h bc bs hi
  unfold i_bin at hi
  split at hi
  · exact WW.st (fun p e s m args below meth c ZZ H locs cells slots ls hx hb hL k => lv_iadd hx hb hd k) (hk _ _ _ _ _ hi)
  · exact hi.elim
theorem s_isub (hd : decode (Mc M) pc = .ok (.isub, 1)) : Snd M pc (pc + 1) (i_bin (fun x y => x - y)) := by
  intro G R d h0 O OX kn _ _ hk l st h bc bs hi
  unfold i_bin at hi
  split at hi
  · exact WW.st (fun p e s m args below meth c ZZ H locs cells slots ls hx hb hL k => lv_isub hx hb hd k) (hk _ _ _ _ _ hi)
  · exact hi.elim
theorem s_imul (hd : decode (Mc M) pc = .ok (.imul, 1)) : Snd M pc (pc + 1) (i_bin (fun x y => x * y)) := by
  intro G R d h0 O OX kn _ _ hk l st h bc bs hi
  unfold i_bin at hi
  split at hi
  · exact WW.st (fun p e s m args below meth c ZZ H locs cells slots ls hx hb hL k => lv_imul hx hb hd k) (hk _ _ _ _ _ hi)
  · exact hi.elim
theorem s_iand (hd : decode (Mc M) pc = .ok (.iand, 1)) : Snd M pc (pc + 1) (i_bin (fun x y => x &&& y)) := by
  intro G R d h0 O OX kn _ _ hk l st h bc bs hi
  unfold i_bin at hi
  split at hi
  · exact WW.st (fun p e s m args below meth c ZZ H locs cells slots ls hx hb hL k => lv_iand hx hb hd k) (hk _ _ _ _ _ hi)
  · exact hi.elim
theorem s_ior (hd : decode (Mc M) pc = .ok (.ior, 1)) : Snd M pc (pc + 1) (i_bin (fun x y => x ||| y)) := by
  intro G R d h0 O OX kn _ _ hk l st h bc bs hi
  unfold i_bin at hi
  split at hi
  · exact WW.st (fun p e s m args below meth c ZZ H locs cells slots ls hx hb hL k => lv_ior hx hb hd k) (hk _ _ _ _ _ hi)
  · exact hi.elim
theorem s_ixor (hd : decode (Mc M) pc = .ok (.ixor, 1)) : Snd M pc (pc + 1) (i_bin (fun x y => x ^^^ y)) := by
  intro G R d h0 O OX kn _ _ hk l st h bc bs hi
  unfold i_bin at hi
  split at hi
  · exact WW.st (fun p e s m args below meth c ZZ H locs cells slots ls hx hb hL k => lv_ixor hx hb hd k) (hk _ _ _ _ _ hi)
  · exact hi.elim
theorem s_ishl (hd : decode (Mc M) pc = .ok (.ishl, 1)) : Snd M pc (pc + 1) (i_bin (fun x y => x <<< (y &&& 31))) := by
  intro G R d h0 O OX kn _ _ hk l st h bc bs hi
  unfold i_bin at hi
  split at hi
  · exact WW.st (fun p e s m args below meth c ZZ H locs cells slots ls hx hb hL k => lv_ishl hx hb hd k) (hk _ _ _ _ _ hi)
  · exact hi.elim
theorem s_ishr (hd : decode (Mc M) pc = .ok (.ishr, 1)) : Snd M pc (pc + 1) (i_bin (fun x y => x >>> (y &&& 31))) := by
  intro G R d h0 O OX kn _ _ hk l st h bc bs hi
  unfold i_bin at hi
  split at hi
  · exact WW.st (fun p e s m args below meth c ZZ H locs cells slots ls hx hb hL k => lv_ishr hx hb hd k) (hk _ _ _ _ _ hi)
  · exact hi.elim
theorem s_iushr (hd : decode (Mc M) pc = .ok (.iushr, 1)) : Snd M pc (pc + 1) (i_bin (fun x y => (x.toUInt32 >>> (y.toUInt32 &&& Int32.toUInt32 31)).toInt32)) := by
  intro G R d h0 O OX kn _ _ hk l st h bc bs hi
  unfold i_bin at hi
  split at hi
  · exact WW.st (fun p e s m args below meth c ZZ H locs cells slots ls hx hb hL k => lv_iushr hx hb hd rfl k) (hk _ _ _ _ _ hi)
  · exact hi.elim
theorem s_idiv (hd : decode (Mc M) pc = .ok (.idiv, 1)) : Snd M pc (pc + 1) (i_binz (fun x y => x / y)) := by
  intro G R d h0 O OX kn _ _ hk l st h bc bs hi
  unfold i_binz at hi
  split at hi
  · exact WW.st (fun p e s m args below meth c ZZ H locs cells slots ls hx hb hL k => lv_idiv hx hb hd hi.1 k) (hk _ _ _ _ _ hi.2)
  · exact hi.elim
theorem s_irem (hd : decode (Mc M) pc = .ok (.irem, 1)) : Snd M pc (pc + 1) (i_binz (fun x y => x - x / y * y)) := by
  intro G R d h0 O OX kn _ _ hk l st h bc bs hi
  unfold i_binz at hi
  split at hi
  · exact WW.st (fun p e s m args below meth c ZZ H locs cells slots ls hx hb hL k => lv_irem hx hb hd hi.1 k) (hk _ _ _ _ _ hi.2)
  · exact hi.elim
theorem s_ineg (hd : decode (Mc M) pc = .ok (.ineg, 1)) : Snd M pc (pc + 1) (i_un (fun x => -x)) := by
  intro G R d h0 O OX kn _ _ hk l st h bc bs hi
  unfold i_un at hi
  split at hi
  · exact WW.st (fun p e s m args below meth c ZZ H locs cells slots ls hx hb hL k => lv_ineg hx hb hd k) (hk _ _ _ _ _ hi)
  · exact hi.elim
theorem s_ladd (hd : decode (Mc M) pc = .ok (.ladd, 1)) : Snd M pc (pc + 1) (i_lbin (fun x y => x + y)) := by
  intro G R d h0 O OX kn _ _ hk l st h bc bs hi
  unfold i_lbin at hi
  split at hi
  · exact WW.st (fun p e s m args below meth c ZZ H locs cells slots ls hx hb hL k => lv_ladd hx hb hd k) (hk _ _ _ _ _ hi)
  · exact hi.elim
theorem s_lsub (hd : decode (Mc M) pc = .ok (.lsub, 1)) : Snd M pc (pc + 1) (i_lbin (fun x y => x - y)) := by
  intro G R d h0 O OX kn _ _ hk l st h bc bs hi
  unfold i_lbin at hi
  split at hi
  · exact WW.st (fun p e s m args below meth c ZZ H locs cells slots ls hx hb hL k => lv_lsub hx hb hd k) (hk _ _ _ _ _ hi)
  · exact hi.elim
theorem s_lmul (hd : decode (Mc M) pc = .ok (.lmul, 1)) : Snd M pc (pc + 1) (i_lbin (fun x y => x * y)) := by
  intro G R d h0 O OX kn _ _ hk l st h bc bs hi
  unfold i_lbin at hi
  split at hi
  · exact WW.st (fun p e s m args below meth c ZZ H locs cells slots ls hx hb hL k => lv_lmul hx hb hd k) (hk _ _ _ _ _ hi)
  · exact hi.elim
theorem s_land (hd : decode (Mc M) pc = .ok (.land, 1)) : Snd M pc (pc + 1) (i_lbin (fun x y => x &&& y)) := by
  intro G R d h0 O OX kn _ _ hk l st h bc bs hi
  unfold i_lbin at hi
  split at hi
  · exact WW.st (fun p e s m args below meth c ZZ H locs cells slots ls hx hb hL k => lv_land hx hb hd k) (hk _ _ _ _ _ hi)
  · exact hi.elim
theorem s_lor (hd : decode (Mc M) pc = .ok (.lor, 1)) : Snd M pc (pc + 1) (i_lbin (fun x y => x ||| y)) := by
  intro G R d h0 O OX kn _ _ hk l st h bc bs hi
  unfold i_lbin at hi
  split at hi
  · exact WW.st (fun p e s m args below meth c ZZ H locs cells slots ls hx hb hL k => lv_lor hx hb hd k) (hk _ _ _ _ _ hi)
  · exact hi.elim
theorem s_ldiv (hd : decode (Mc M) pc = .ok (.ldiv, 1)) : Snd M pc (pc + 1) (i_lbinz (fun x y => x / y)) := by
  intro G R d h0 O OX kn _ _ hk l st h bc bs hi
  unfold i_lbinz at hi
  split at hi
  · exact WW.st (fun p e s m args below meth c ZZ H locs cells slots ls hx hb hL k => lv_ldiv hx hb hd hi.1 k) (hk _ _ _ _ _ hi.2)
  · exact hi.elim
theorem s_i2l (hd : decode (Mc M) pc = .ok (.i2l, 1)) : Snd M pc (pc + 1) i_i2l := by
  intro G R d h0 O OX kn _ _ hk l st h bc bs hi
  unfold i_i2l at hi
  split at hi
  · exact WW.st (fun p e s m args below meth c ZZ H locs cells slots ls hx hb hL k => lv_i2l hx hb hd rfl k) (hk _ _ _ _ _ hi)
  · exact hi.elim
theorem s_l2i (hd : decode (Mc M) pc = .ok (.l2i, 1)) : Snd M pc (pc + 1) i_l2i := by
  intro G R d h0 O OX kn _ _ hk l st h bc bs hi
  unfold i_l2i at hi
  split at hi
  · exact WW.st (fun p e s m args below meth c ZZ H locs cells slots ls hx hb hL k => lv_l2i hx hb hd rfl k) (hk _ _ _ _ _ hi)
  · exact hi.elim
theorem s_lshl (hd : decode (Mc M) pc = .ok (.lshl, 1)) : Snd M pc (pc + 1) i_lshl := by
  intro G R d h0 O OX kn _ _ hk l st h bc bs hi
  unfold i_lshl at hi
  split at hi
  · exact WW.st (fun p e s m args below meth c ZZ H locs cells slots ls hx hb hL k => lv_lshl hx hb hd rfl k) (hk _ _ _ _ _ hi)
  · exact hi.elim
theorem s_lcmp (hd : decode (Mc M) pc = .ok (.lcmp, 1)) : Snd M pc (pc + 1) i_lcmp := by
  intro G R d h0 O OX kn _ _ hk l st h bc bs hi
  unfold i_lcmp at hi
  split at hi
  · exact WW.st (fun p e s m args below meth c ZZ H locs cells slots ls hx hb hL k => W.lcmp hx hb hd k) (hk _ _ _ _ _ hi)
  · exact hi.elim
theorem s_i2b (hd : decode (Mc M) pc = .ok (.i2b, 1)) : Snd M pc (pc + 1) (i_un (fun x => x.toInt8.toInt32)) := by
  intro G R d h0 O OX kn _ _ hk l st h bc bs hi
  unfold i_un at hi
  split at hi
  · exact WW.st (fun p e s m args below meth c ZZ H locs cells slots ls hx hb hL k => lv_i2b hx hb hd rfl k) (hk _ _ _ _ _ hi)
  · exact hi.elim
theorem s_i2s (hd : decode (Mc M) pc = .ok (.i2s, 1)) : Snd M pc (pc + 1) (i_un (fun x => x.toInt16.toInt32)) := by
  intro G R d h0 O OX kn _ _ hk l st h bc bs hi
  unfold i_un at hi
  split at hi
  · exact WW.st (fun p e s m args below meth c ZZ H locs cells slots ls hx hb hL k => lv_i2s hx hb hd rfl k) (hk _ _ _ _ _ hi)
  · exact hi.elim
def i_dup : Tr := fun _ _ _ _ _ k l st h bc bs => match st with
  | a :: r => a.category = 1 ∧ k l (a :: a :: r) h bc bs
  | _ => False
def i_pop : Tr := fun _ _ _ _ _ k l st h bc bs => match st with
  | a :: r => a.category = 1 ∧ k l r h bc bs
  | _ => False
def i_pop2 : Tr := fun _ _ _ _ _ k l st h bc bs => match st with
  | .long _ :: r => k l r h bc bs
  | _ => False
def i_dup_x1 : Tr := fun _ _ _ _ _ k l st h bc bs => match st with
  | .int a :: .ref b :: r => k l (.int a :: .ref b :: .int a :: r) h bc bs
  | .int a :: .int b :: r => k l (.int a :: .int b :: .int a :: r) h bc bs
  | _ => False
def i_dup2 : Tr := fun _ _ _ _ _ k l st h bc bs => match st with
  | .int a :: .ref b :: r => k l (.int a :: .ref b :: .int a :: .ref b :: r) h bc bs
  | .long a :: r => k l (.long a :: .long a :: r) h bc bs
  | _ => False
theorem s_dup (hd : decode (Mc M) pc = .ok (.dup, 1)) : Snd M pc (pc + 1) i_dup := by
  intro G R d h0 O OX kn _ _ hk l st h bc bs hi
  unfold i_dup at hi
  split at hi
  · exact WW.st (fun p e s m args below meth c ZZ H locs cells slots ls hx hb hL k => lv_dup hx hb hd hi.1 k) (hk _ _ _ _ _ hi.2)
  · exact hi.elim
theorem s_pop (hd : decode (Mc M) pc = .ok (.pop, 1)) : Snd M pc (pc + 1) i_pop := by
  intro G R d h0 O OX kn _ _ hk l st h bc bs hi
  unfold i_pop at hi
  split at hi
  · exact WW.st (fun p e s m args below meth c ZZ H locs cells slots ls hx hb hL k => lv_pop hx hb hd hi.1 k) (hk _ _ _ _ _ hi.2)
  · exact hi.elim
theorem s_pop2 (hd : decode (Mc M) pc = .ok (.pop2, 1)) : Snd M pc (pc + 1) i_pop2 := by
  intro G R d h0 O OX kn _ _ hk l st h bc bs hi
  unfold i_pop2 at hi
  split at hi
  · exact WW.st (fun p e s m args below meth c ZZ H locs cells slots ls hx hb hL k => lv_pop2_2 hx hb hd rfl k) (hk _ _ _ _ _ hi)
  · exact hi.elim
theorem s_dup_x1 (hd : decode (Mc M) pc = .ok (.dup_x1, 1)) : Snd M pc (pc + 1) i_dup_x1 := by
  intro G R d h0 O OX kn _ _ hk l st h bc bs hi
  unfold i_dup_x1 at hi
  split at hi
  · exact WW.st (fun p e s m args below meth c ZZ H locs cells slots ls hx hb hL k => lv_dup_x1 hx hb hd rfl rfl k) (hk _ _ _ _ _ hi)
  · exact WW.st (fun p e s m args below meth c ZZ H locs cells slots ls hx hb hL k => lv_dup_x1 hx hb hd rfl rfl k) (hk _ _ _ _ _ hi)
  · exact hi.elim
theorem s_dup2 (hd : decode (Mc M) pc = .ok (.dup2, 1)) : Snd M pc (pc + 1) i_dup2 := by
  intro G R d h0 O OX kn _ _ hk l st h bc bs hi
  unfold i_dup2 at hi
  split at hi
  · exact WW.st (fun p e s m args below meth c ZZ H locs cells slots ls hx hb hL k => lv_dup2_11 hx hb hd rfl rfl k) (hk _ _ _ _ _ hi)
  · exact WW.st (fun p e s m args below meth c ZZ H locs cells slots ls hx hb hL k => lv_dup2_2 hx hb hd rfl k) (hk _ _ _ _ _ hi)
  · exact hi.elim
theorem WW.br {G : GG} {R : Room} {h0 : Hp} {O : Option Value → Hp → Prop} {OX : Nat → Nat → Hp → Prop} {l st st' : List Value} {h : Hp} {bc bs tgt nx : Nat} {C : Prop}
    (hw : ∀ (p : Program) (e : Env) (s : State) (m : MethodId) (args : Array Value) (below : List Frame) (meth : Method) (c : Code) (ZZ : State → Prop) (H : Heap) (locs : List Loc) (cells slots : Nat) (ls : Array Slot), p.tables.exec = Jvm.exec → c.code = Mc M → LH ls (Ml M) l →
      (C → W p (Gl G) e R s m args below meth c H locs cells slots ZZ (F0 m tgt ls st')) → (¬ C → W p (Gl G) e R s m args below meth c H locs cells slots ZZ (F0 m nx ls st')) → W p (Gl G) e R s m args below meth c H locs cells slots ZZ (F0 m pc ls st))
    (k : (C → WW G M R h0 O OX tgt l st' h bc bs) ∧ (¬ C → WW G M R h0 O OX nx l st' h bc bs)) : WW G M R h0 O OX pc l st h bc bs := by
  intro p e s m args below meth c ZZ F hRt hTt H locs cells slots ls hR hG hS hL h1 h2
  exact hw p e s m args below meth c ZZ H locs cells slots ls F.1 F.2.1 hL (fun hc => k.1 hc p e s m args below meth c ZZ F hRt hTt H locs cells slots ls hR hG hS hL h1 h2) (fun hc => k.2 hc p e s m args below meth c ZZ F hRt hTt H locs cells slots ls hR hG hS hL h1 h2)
def i_if (C : Int32 → Prop) (tgt : Nat) : Tr := fun _ _ J _ _ k l st h bc bs => match st with
  | .int x :: r => (C x → J tgt l r h bc bs) ∧ (¬ C x → k l r h bc bs)
  | _ => False
def i_icmp (C : Int32 → Int32 → Prop) (tgt : Nat) : Tr := fun _ _ J _ _ k l st h bc bs => match st with
  | .int y :: .int x :: r => (C x y → J tgt l r h bc bs) ∧ (¬ C x y → k l r h bc bs)
  | _ => False
def i_ifne (tgt : Nat) : Tr := fun _ _ J _ _ k l st h bc bs => match st with
  | .int x :: r => (¬ x = 0 → J tgt l r h bc bs) ∧ (x = 0 → k l r h bc bs)
  | _ => False
def i_icmpne (tgt : Nat) : Tr := fun _ _ J _ _ k l st h bc bs => match st with
  | .int y :: .int x :: r => (¬ x = y → J tgt l r h bc bs) ∧ (x = y → k l r h bc bs)
  | _ => False
theorem s_ifCond_eq {off : Int} {tgt : Nat} (hd : decode (Mc M) pc = .ok (.ifCond .eq off, 3)) (ht : (pc : Int) + off = (tgt : Int)) : Snd M pc (pc + 3) (i_if (fun x => x = 0) tgt) := by
  intro G R d h0 O OX kn _ _ hk l st h bc bs hi
  unfold i_if at hi
  split at hi
  · exact WW.br (fun p e s m args below meth c ZZ H locs cells slots ls hx hb hL k1 k2 => lv_if_eq hx hb hd ht k1 k2) ⟨hi.1, fun hc => hk _ _ _ _ _ (hi.2 hc)⟩
  · exact hi.elim
theorem s_if_icmp_eq {off : Int} {tgt : Nat} (hd : decode (Mc M) pc = .ok (.if_icmp .eq off, 3)) (ht : (pc : Int) + off = (tgt : Int)) : Snd M pc (pc + 3) (i_icmp (fun x y => x = y) tgt) := by
  intro G R d h0 O OX kn _ _ hk l st h bc bs hi
  unfold i_icmp at hi
  split at hi
  · exact WW.br (fun p e s m args below meth c ZZ H locs cells slots ls hx hb hL k1 k2 => lv_icmp_eq hx hb hd ht k1 k2) ⟨hi.1, fun hc => hk _ _ _ _ _ (hi.2 hc)⟩
  · exact hi.elim
theorem s_ifCond_ne {off : Int} {tgt : Nat} (hd : decode (Mc M) pc = .ok (.ifCond .ne off, 3)) (ht : (pc : Int) + off = (tgt : Int)) : Snd M pc (pc + 3) (i_ifne  tgt) := by
  intro G R d h0 O OX kn _ _ hk l st h bc bs hi
  unfold i_ifne at hi
  split at hi
  · exact WW.br (fun p e s m args below meth c ZZ H locs cells slots ls hx hb hL k1 k2 => lv_if_ne hx hb hd ht k1 (fun q => k2 (fun z => z q))) ⟨hi.1, fun hc => hk _ _ _ _ _ (hi.2 (Decidable.not_not.mp hc))⟩
  · exact hi.elim
theorem s_if_icmp_ne {off : Int} {tgt : Nat} (hd : decode (Mc M) pc = .ok (.if_icmp .ne off, 3)) (ht : (pc : Int) + off = (tgt : Int)) : Snd M pc (pc + 3) (i_icmpne  tgt) := by
  intro G R d h0 O OX kn _ _ hk l st h bc bs hi
  unfold i_icmpne at hi
  split at hi
  · exact WW.br (fun p e s m args below meth c ZZ H locs cells slots ls hx hb hL k1 k2 => lv_icmp_ne hx hb hd ht k1 (fun q => k2 (fun z => z q))) ⟨hi.1, fun hc => hk _ _ _ _ _ (hi.2 (Decidable.not_not.mp hc))⟩
  · exact hi.elim
theorem s_ifCond_lt {off : Int} {tgt : Nat} (hd : decode (Mc M) pc = .ok (.ifCond .lt off, 3)) (ht : (pc : Int) + off = (tgt : Int)) : Snd M pc (pc + 3) (i_if (fun x => x < 0) tgt) := by
  intro G R d h0 O OX kn _ _ hk l st h bc bs hi
  unfold i_if at hi
  split at hi
  · exact WW.br (fun p e s m args below meth c ZZ H locs cells slots ls hx hb hL k1 k2 => lv_if_lt hx hb hd ht k1 k2) ⟨hi.1, fun hc => hk _ _ _ _ _ (hi.2 hc)⟩
  · exact hi.elim
theorem s_if_icmp_lt {off : Int} {tgt : Nat} (hd : decode (Mc M) pc = .ok (.if_icmp .lt off, 3)) (ht : (pc : Int) + off = (tgt : Int)) : Snd M pc (pc + 3) (i_icmp (fun x y => x < y) tgt) := by
  intro G R d h0 O OX kn _ _ hk l st h bc bs hi
  unfold i_icmp at hi
  split at hi
  · exact WW.br (fun p e s m args below meth c ZZ H locs cells slots ls hx hb hL k1 k2 => lv_icmp_lt hx hb hd ht k1 k2) ⟨hi.1, fun hc => hk _ _ _ _ _ (hi.2 hc)⟩
  · exact hi.elim
theorem s_ifCond_ge {off : Int} {tgt : Nat} (hd : decode (Mc M) pc = .ok (.ifCond .ge off, 3)) (ht : (pc : Int) + off = (tgt : Int)) : Snd M pc (pc + 3) (i_if (fun x => 0 ≤ x) tgt) := by
  intro G R d h0 O OX kn _ _ hk l st h bc bs hi
  unfold i_if at hi
  split at hi
  · exact WW.br (fun p e s m args below meth c ZZ H locs cells slots ls hx hb hL k1 k2 => lv_if_ge hx hb hd ht k1 k2) ⟨hi.1, fun hc => hk _ _ _ _ _ (hi.2 hc)⟩
  · exact hi.elim
theorem s_if_icmp_ge {off : Int} {tgt : Nat} (hd : decode (Mc M) pc = .ok (.if_icmp .ge off, 3)) (ht : (pc : Int) + off = (tgt : Int)) : Snd M pc (pc + 3) (i_icmp (fun x y => y ≤ x) tgt) := by
  intro G R d h0 O OX kn _ _ hk l st h bc bs hi
  unfold i_icmp at hi
  split at hi
  · exact WW.br (fun p e s m args below meth c ZZ H locs cells slots ls hx hb hL k1 k2 => lv_icmp_ge hx hb hd ht k1 k2) ⟨hi.1, fun hc => hk _ _ _ _ _ (hi.2 hc)⟩
  · exact hi.elim
theorem s_ifCond_gt {off : Int} {tgt : Nat} (hd : decode (Mc M) pc = .ok (.ifCond .gt off, 3)) (ht : (pc : Int) + off = (tgt : Int)) : Snd M pc (pc + 3) (i_if (fun x => 0 < x) tgt) := by
  intro G R d h0 O OX kn _ _ hk l st h bc bs hi
  unfold i_if at hi
  split at hi
  · exact WW.br (fun p e s m args below meth c ZZ H locs cells slots ls hx hb hL k1 k2 => lv_if_gt hx hb hd ht k1 k2) ⟨hi.1, fun hc => hk _ _ _ _ _ (hi.2 hc)⟩
  · exact hi.elim
theorem s_if_icmp_gt {off : Int} {tgt : Nat} (hd : decode (Mc M) pc = .ok (.if_icmp .gt off, 3)) (ht : (pc : Int) + off = (tgt : Int)) : Snd M pc (pc + 3) (i_icmp (fun x y => y < x) tgt) := by
  intro G R d h0 O OX kn _ _ hk l st h bc bs hi
  unfold i_icmp at hi
  split at hi
  · exact WW.br (fun p e s m args below meth c ZZ H locs cells slots ls hx hb hL k1 k2 => lv_icmp_gt hx hb hd ht k1 k2) ⟨hi.1, fun hc => hk _ _ _ _ _ (hi.2 hc)⟩
  · exact hi.elim
theorem s_ifCond_le {off : Int} {tgt : Nat} (hd : decode (Mc M) pc = .ok (.ifCond .le off, 3)) (ht : (pc : Int) + off = (tgt : Int)) : Snd M pc (pc + 3) (i_if (fun x => x ≤ 0) tgt) := by
  intro G R d h0 O OX kn _ _ hk l st h bc bs hi
  unfold i_if at hi
  split at hi
  · exact WW.br (fun p e s m args below meth c ZZ H locs cells slots ls hx hb hL k1 k2 => lv_if_le hx hb hd ht k1 k2) ⟨hi.1, fun hc => hk _ _ _ _ _ (hi.2 hc)⟩
  · exact hi.elim
theorem s_if_icmp_le {off : Int} {tgt : Nat} (hd : decode (Mc M) pc = .ok (.if_icmp .le off, 3)) (ht : (pc : Int) + off = (tgt : Int)) : Snd M pc (pc + 3) (i_icmp (fun x y => x ≤ y) tgt) := by
  intro G R d h0 O OX kn _ _ hk l st h bc bs hi
  unfold i_icmp at hi
  split at hi
  · exact WW.br (fun p e s m args below meth c ZZ H locs cells slots ls hx hb hL k1 k2 => lv_icmp_le hx hb hd ht k1 k2) ⟨hi.1, fun hc => hk _ _ _ _ _ (hi.2 hc)⟩
  · exact hi.elim
def i_ifnull (tgt : Nat) : Tr := fun _ _ J _ _ k l st h bc bs => match st with
  | .null :: r => J tgt l r h bc bs
  | .ref _ :: r => k l r h bc bs
  | _ => False
def i_ifnonnull (tgt : Nat) : Tr := fun _ _ J _ _ k l st h bc bs => match st with
  | .ref _ :: r => J tgt l r h bc bs
  | .null :: r => k l r h bc bs
  | _ => False
theorem s_ifnull {off : Int} {tgt : Nat} (hd : decode (Mc M) pc = .ok (.ifnull off, 3)) (ht : (pc : Int) + off = (tgt : Int)) : Snd M pc (pc + 3) (i_ifnull tgt) := by
  intro G R d h0 O OX kn _ _ hk l st h bc bs hi
  unfold i_ifnull at hi
  split at hi
  · exact WW.st (fun p e s m args below meth c ZZ H locs cells slots ls hx hb hL k => lv_ifnullN hx hb hd ht k) hi
  · exact WW.st (fun p e s m args below meth c ZZ H locs cells slots ls hx hb hL k => lv_ifnull hx hb hd k) (hk _ _ _ _ _ hi)
  · exact hi.elim
theorem s_ifnonnull {off : Int} {tgt : Nat} (hd : decode (Mc M) pc = .ok (.ifnonnull off, 3)) (ht : (pc : Int) + off = (tgt : Int)) : Snd M pc (pc + 3) (i_ifnonnull tgt) := by
  intro G R d h0 O OX kn _ _ hk l st h bc bs hi
  unfold i_ifnonnull at hi
  split at hi
  · exact WW.st (fun p e s m args below meth c ZZ H locs cells slots ls hx hb hL k => lv_ifnonnull hx hb hd ht k) hi
  · exact WW.st (fun p e s m args below meth c ZZ H locs cells slots ls hx hb hL k => lv_ifnonnullN hx hb hd k) (hk _ _ _ _ _ hi)
  · exact hi.elim
def i_goto (tgt : Nat) : Tr := fun _ _ J _ _ _ l st h bc bs => J tgt l st h bc bs
theorem s_goto {off : Int} {tgt : Nat} (hd : decode (Mc M) pc = .ok (.goto off, 3)) (ht : (pc : Int) + off = (tgt : Int)) : Snd M pc (pc + 3) (i_goto tgt) := by
  intro G R d h0 O OX kn _ _ hk l st h bc bs hi
  exact WW.st (fun p e s m args below meth c ZZ H locs cells slots ls hx hb hL k => lv_goto hx hb hd ht k) hi
/-- a switch over a table: the places of the list, from lo on -/
def i_tsw (lo : Nat) (tgts : List Nat) (dflt : Nat) : Tr := fun _ _ J _ _ _ l st h bc bs => match st with
  | .int x :: r => (∀ j t, tgts[j]? = some t → x = nI (lo + j) → J t l r h bc bs) ∧ ((∀ j, j < tgts.length → x ≠ nI (lo + j)) → J dflt l r h bc bs)
  | _ => False
theorem s_tsw {nx lo n : Nat} {tgts : List Nat} {dflt : Nat} {doff : Int} {offs : Array Int} {len : Nat} {hi9 : Int} (hd : decode (Mc M) pc = .ok (.tableswitch doff lo hi9 offs, len)) (hn : tgts.length = n) (hh : hi9 = (lo : Int) + n - 1) (hb9 : lo + n < 1000) (ht : (pc : Int) + doff = (dflt : Int))
    (hz : ∀ j, j < n → ∃ off, offs[j]? = some off ∧ (pc : Int) + off = ((tgts.getD j 0 : Nat) : Int)) : Snd M pc nx (i_tsw lo tgts dflt) := by
  intro G R d h0 O OX kn _ _ hk l st h bc bs hi
  unfold i_tsw at hi
  split at hi
  · rename_i x r
    by_cases hx : x.toInt < lo ∨ hi9 < x.toInt
    · refine WW.st (fun p e s m args below meth c ZZ H locs cells slots ls hx9 hb hL k => lv_tableOut hx9 hb hd hx ht k) (hi.2 (fun j hj e => ?_))
      have e2 : x.toInt = ((lo + j : Nat) : Int) := by rw [e]; exact nI_toInt (by omega)
      omega
    · have g1 : ¬ x.toInt < lo := fun q => hx (Or.inl q)
      have g2 : ¬ hi9 < x.toInt := fun q => hx (Or.inr q)
      obtain ⟨j, hj⟩ : ∃ j : Nat, x.toInt = (lo : Int) + j := ⟨(x.toInt - lo).toNat, by omega⟩
      have hjn : j < n := by omega
      obtain ⟨off, ho, hto⟩ := hz j hjn
      have e1 : x = nI (lo + j) := by
        apply Int32.toInt_inj.mp
        rw [nI_toInt (by omega), hj]
        simp
      have e3 : tgts[j]? = some (tgts.getD j 0) := by
        have : j < tgts.length := by omega
        simp [this]
      refine WW.st (fun p e s m args below meth c ZZ H locs cells slots ls hx9 hb hL k => lv_tableIn (off := off) hx9 hb hd g1 g2 ?_ hto k) (hi.1 j _ e3 e1)
      rw [hj]
      rw [show (lo : Int) + j - lo = (j : Int) by omega]
      exact ho
  · exact hi.elim
/-- the ends -/
def i_iret : Tr := fun _ _ _ Rt _ _ _ st h _ _ => match st with
  | [.int x] => Rt (some (.int x)) h
  | _ => False
def i_lret : Tr := fun _ _ _ Rt _ _ _ st h _ _ => match st with
  | [.long x] => Rt (some (.long x)) h
  | _ => False
def i_aret : Tr := fun _ _ _ Rt _ _ _ st h _ _ => match st with
  | [v] => Rt (some v) h
  | _ => False
def i_vret : Tr := fun _ _ _ Rt _ _ _ st h _ _ => match st with
  | [] => Rt none h
  | _ => False
theorem WW.ret {G : GG} {R : Room} {h0 : Hp} {O : Option Value → Hp → Prop} {OX : Nat → Nat → Hp → Prop} {l : List Value} {v : Option Value} {h : Hp} {bc bs : Nat} (hd : decode (Mc M) pc = .ok (rIn (Mr M), 1)) (hi : rOk (Mr M) v ∧ O v h) : WW G M R h0 O OX pc l v.toList h bc bs := by
  intro p e s m args below meth c ZZ F hRt hTt H locs cells slots ls hR hG hS hL h1 h2
  exact hRt v h H locs cells slots pc ls hi.1 hi.2 hR hG hS (by omega) (by omega) hd
theorem s_iret {nx : Nat} (hd : decode (Mc M) pc = .ok (.ireturn, 1)) (hr : rIn (Mr M) = .ireturn) : Snd M pc nx i_iret := by
  intro G R d h0 O OX kn _ _ hk l st h bc bs hi
  unfold i_iret at hi
  split at hi
  · exact WW.ret (v := some _) (by rw [hr]; exact hd) hi
  · exact hi.elim
theorem s_lret {nx : Nat} (hd : decode (Mc M) pc = .ok (.lreturn, 1)) (hr : rIn (Mr M) = .lreturn) : Snd M pc nx i_lret := by
  intro G R d h0 O OX kn _ _ hk l st h bc bs hi
  unfold i_lret at hi
  split at hi
  · exact WW.ret (v := some _) (by rw [hr]; exact hd) hi
  · exact hi.elim
theorem s_aret {nx : Nat} (hd : decode (Mc M) pc = .ok (.areturn, 1)) (hr : rIn (Mr M) = .areturn) : Snd M pc nx i_aret := by
  intro G R d h0 O OX kn _ _ hk l st h bc bs hi
  unfold i_aret at hi
  split at hi
  · exact WW.ret (v := some _) (by rw [hr]; exact hd) hi
  · exact hi.elim
theorem s_vret {nx : Nat} (hd : decode (Mc M) pc = .ok (.return_, 1)) (hr : rIn (Mr M) = .return_) : Snd M pc nx i_vret := by
  intro G R d h0 O OX kn _ _ hk l st h bc bs hi
  unfold i_vret at hi
  split at hi
  · exact WW.ret (v := none) (by rw [hr]; exact hd) hi
  · exact hi.elim
end Pure
