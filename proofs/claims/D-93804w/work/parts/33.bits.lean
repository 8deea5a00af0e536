set_option maxRecDepth 100000
/-! bits -/
theorem i32_and (a b : Int32) : (a &&& b).toBitVec = a.toBitVec &&& b.toBitVec := rfl
theorem nI_bv (n : Nat) : (nI n).toBitVec = BitVec.ofNat 32 n := rfl
theorem shr_bv {x : Int32} {i : Nat} (hi : i < 31) : (x >>> (nI i &&& 31)).toBitVec = x.toBitVec.sshiftRight i := by
  rw [Int32.toBitVec_shiftRight]
  have e : ((nI i &&& 31).toBitVec.smod 32).toNat = i := by
    have : ∀ i : Fin 31, ((nI i.1 &&& 31).toBitVec.smod 32).toNat = i.1 := by decide +kernel
    exact this ⟨i, hi⟩
  unfold BitVec.sshiftRight'
  rw [e]
theorem and1_iff (b : BitVec 32) : (b &&& BitVec.ofNat 32 1 = BitVec.ofNat 32 1) ↔ b.getLsbD 0 = true := by
  constructor
  · intro h
    have := congrArg (fun v => BitVec.getLsbD v 0) h
    simpa using this
  · intro h
    apply BitVec.eq_of_getLsbD_eq
    intro i hi
    rw [BitVec.getLsbD_and]
    by_cases h0 : i = 0
    · subst h0; simp [h]
    · have : (BitVec.ofNat 32 1).getLsbD i = false := by
        rw [BitVec.getLsbD_ofNat, show (1:Nat) = 2^0 from rfl, Nat.testBit_two_pow]
        simp; omega
      rw [this, Bool.and_false]
theorem bit_get {x : Int32} {i : Nat} (hi : i < 31) : bitP x (nI i) = x.toBitVec.getLsbD i := by
  unfold bitP
  have h1 : ((x >>> (nI i &&& 31)) &&& nI 1 = nI 1) ↔ x.toBitVec.getLsbD i = true := by
    rw [← Int32.toBitVec_inj, i32_and, shr_bv hi, nI_bv, and1_iff, BitVec.getLsbD_sshiftRight]
    simp
    omega
  by_cases h : x.toBitVec.getLsbD i = true
  · rw [h]; exact decide_eq_true (h1.mpr h)
  · rw [decide_eq_false (fun q => h (h1.mp q))]
    simpa using h
theorem bit_or {x y : Int32} {i : Nat} (hi : i < 31) : bitP (x ||| y) (nI i) = (bitP x (nI i) || bitP y (nI i)) := by
  rw [bit_get hi, bit_get hi, bit_get hi, i32_or, BitVec.getLsbD_or]
theorem bit_nI {a i : Nat} (hi : i < 31) : bitP (nI a) (nI i) = a.testBit i := by
  rw [bit_get hi, nI_bv, BitVec.getLsbD_ofNat]
  simp
  omega
theorem bit_shl {v i : Nat} (hv : v ≤ 12) (hi : i < 31) : bitP (nI 1 <<< (nI v &&& 31)) (nI i) = decide (v = i) := by
  rw [nI_shl hv, bit_nI hi, Nat.testBit_two_pow]
theorem bit_put {x : Int32} {v i : Nat} (hv : v ≤ 12) (hi : i < 31) : bitP (x ||| (nI 1 <<< (nI v &&& 31))) (nI i) = (bitP x (nI i) || decide (v = i)) := by
  rw [bit_or hi, bit_shl hv hi]
