set_option maxRecDepth 100000
/-! how contracts are used -/
abbrev Rv (v : Option Value) (h1 : Hp) : Option Value → Hp → Prop := fun r h2 => r = v ∧ h2 = h1
theorem brn_t {c A B : Prop} (h : ¬ c) (a : A) : (¬ c → A) ∧ (c → B) := ⟨fun _ => a, fun q => absurd q h⟩
theorem brn_f {c A B : Prop} (h : c) (b : B) : (¬ c → A) ∧ (c → B) := ⟨fun q => absurd h q, fun _ => b⟩
theorem brn_c {c A B : Prop} (a : ¬ c → A) (b : c → B) : (¬ c → A) ∧ (c → B) := ⟨a, b⟩
theorem Ct.mk {G : GG} {M : MR} {d mc ms : Nat} {vs : List Value} {h : Hp} {O : Option Value → Hp → Prop} {OX : Nat → Nat → Hp → Prop} (hok : MOk M) (body : WW G M (rmO d mc ms) h O OX 0 (ent vs (Ml M)) [] h mc ms) (hlw : (My M).name ≠ "law" := by decide) (hfl : vs.all (fun v => !isFl v) = true := by rfl) (hlen : Nat.ble (lg_sl vs).length (Ml M) = true := by rfl) : Ct G M d mc ms vs h O OX :=
  Ct.of hok hlw (fun v hv => by simpa using List.all_eq_true.mp hfl v hv) (Nat.le_of_ble_eq_true hlen) body
theorem call_r {G : GG} {d : Nat} {T : TT} {k : KK} {M' : MR} {args rest l : List Value} {h h1 : Hp} {bc bs pc n d' mc ms : Nat} {r1 : Option Value} (hC : Ct G M' d' mc ms args h (Rv r1 h1) nX) (k1 : k l (r1.toList ++ rest) h1 (bc - mc) (bs - ms)) (hd : Nat.blt d' d = true := by rfl) (hmc : mc ≤ bc := by first | exact Nat.zero_le _ | exact Nat.le_of_ble_eq_true rfl | omega) (hms : ms ≤ bs := by first | exact Nat.zero_le _ | exact Nat.le_of_ble_eq_true rfl | omega) (hcat : Nat.ble (catS rest) 8 = true := by rfl) (hlen : args.length = n := by rfl) :
    ∃ x : XX, CB G d T k M' args rest l h bc bs pc n x :=
  ⟨(d', mc, ms, _, _), hlen, Nat.le_of_ble_eq_true hd, hmc, hms, Nat.le_of_ble_eq_true hcat, hC, fun r h' e => by rw [e.1, e.2]; exact k1, fun _ _ _ _ _ h => h.elim⟩
theorem call_g {G : GG} {d : Nat} {T : TT} {k : KK} {M' : MR} {args rest l : List Value} {h : Hp} {bc bs pc n d' mc ms : Nat} {O : Option Value → Hp → Prop} (hC : Ct G M' d' mc ms args h O nX) (k1 : ∀ r1 h1, O r1 h1 → k l (r1.toList ++ rest) h1 (bc - mc) (bs - ms)) (hd : Nat.blt d' d = true := by rfl) (hmc : mc ≤ bc := by first | exact Nat.zero_le _ | exact Nat.le_of_ble_eq_true rfl | omega) (hms : ms ≤ bs := by first | exact Nat.zero_le _ | exact Nat.le_of_ble_eq_true rfl | omega) (hcat : Nat.ble (catS rest) 8 = true := by rfl) (hlen : args.length = n := by rfl) :
    ∃ x : XX, CB G d T k M' args rest l h bc bs pc n x :=
  ⟨(d', mc, ms, _, _), hlen, Nat.le_of_ble_eq_true hd, hmc, hms, Nat.le_of_ble_eq_true hcat, hC, fun r h' e => k1 r h' e, fun _ _ _ _ _ h => h.elim⟩
theorem callv_r {G : GG} {d : Nat} {T : TT} {k : KK} {M' : MR} {vs : Nat → Option MR} {b c : Nat} {args rest l : List Value} {h h1 : Hp} {bc bs pc n d' mc ms : Nat} {r1 : Option Value} (hk : Kd h b = c) (hC : Ct G M' d' mc ms args h (Rv r1 h1) nX) (k1 : k l (r1.toList ++ rest) h1 (bc - mc) (bs - ms)) (hv : vs c = some M' := by rfl) (hd : Nat.blt d' d = true := by rfl) (hmc : mc ≤ bc := by first | exact Nat.zero_le _ | exact Nat.le_of_ble_eq_true rfl | omega) (hms : ms ≤ bs := by first | exact Nat.zero_le _ | exact Nat.le_of_ble_eq_true rfl | omega) (hcat : Nat.ble (catS rest) 8 = true := by rfl) (hlen : args.length = n := by rfl) :
    ∃ z : Nat × MR × XX, VB G d T k vs b args rest l h bc bs pc n z := by
  obtain ⟨x, hx⟩ := call_r (pc := pc) (T := T) hC k1 hd hmc hms hcat hlen
  exact ⟨(c, M', x), hk, hv, hx⟩
theorem callv_g {G : GG} {d : Nat} {T : TT} {k : KK} {M' : MR} {vs : Nat → Option MR} {b c : Nat} {args rest l : List Value} {h : Hp} {bc bs pc n d' mc ms : Nat} {O : Option Value → Hp → Prop} (hk : Kd h b = c) (hC : Ct G M' d' mc ms args h O nX) (k1 : ∀ r1 h1, O r1 h1 → k l (r1.toList ++ rest) h1 (bc - mc) (bs - ms)) (hv : vs c = some M' := by rfl) (hd : Nat.blt d' d = true := by rfl) (hmc : mc ≤ bc := by first | exact Nat.zero_le _ | exact Nat.le_of_ble_eq_true rfl | omega) (hms : ms ≤ bs := by first | exact Nat.zero_le _ | exact Nat.le_of_ble_eq_true rfl | omega) (hcat : Nat.ble (catS rest) 8 = true := by rfl) (hlen : args.length = n := by rfl) :
    ∃ z : Nat × MR × XX, VB G d T k vs b args rest l h bc bs pc n z := by
  obtain ⟨x, hx⟩ := call_g (pc := pc) (T := T) hC k1 hd hmc hms hcat hlen
  exact ⟨(c, M', x), hk, hv, hx⟩
/-! the model's object: its arrays lie behind it, in order -/
def mtab : List (Nat × Nat × Nat × Nat) := [(40, 1, 101, 8), (41, 2, 101, 12), (42, 3, 101, 12), (43, 4, 101, 4), (44, 5, 101, 4), (45, 6, 101, 10), (46, 7, 101, 10), (47, 8, 101, 10), (48, 9, 101, 10), (49, 10, 101, 10), (50, 11, 101, 10), (51, 12, 101, 10), (52, 13, 101, 10), (53, 14, 101, 10), (54, 15, 101, 8), (55, 16, 101, 8), (56, 17, 101, 8), (57, 18, 101, 8), (58, 19, 101, 8), (59, 20, 102, 960), (60, 21, 102, 120), (61, 22, 101, 58), (67, 23, 101, 150), (68, 24, 101, 150), (69, 25, 101, 150), (70, 26, 102, 1024), (71, 27, 102, 1024), (72, 28, 101, 10), (74, 29, 101, 10), (78, 30, 101, 10), (79, 31, 101, 10), (82, 32, 101, 20)]
def MSh (m : Nat) (h : Hp) : Prop := Kd h m = 6 ∧ ∀ q ∈ mtab, Fr h q.1 m = some (m + q.2.1) ∧ Kd h (m + q.2.1) = q.2.2.1 ∧ Ln h (m + q.2.1) = q.2.2.2
theorem MSh.refused_ {m : Nat} {h : Hp} (s : MSh m h) : Fr h 40 m = some (m + 1) ∧ Kd h (m + 1) = 101 ∧ Ln h (m + 1) = 8 := s.2 (40, 1, 101, 8) (by decide)
theorem MSh.sideA_ {m : Nat} {h : Hp} (s : MSh m h) : Fr h 41 m = some (m + 2) ∧ Kd h (m + 2) = 101 ∧ Ln h (m + 2) = 12 := s.2 (41, 2, 101, 12) (by decide)
theorem MSh.sideB_ {m : Nat} {h : Hp} (s : MSh m h) : Fr h 42 m = some (m + 3) ∧ Kd h (m + 3) = 101 ∧ Ln h (m + 3) = 12 := s.2 (42, 3, 101, 12) (by decide)
theorem MSh.chance_ {m : Nat} {h : Hp} (s : MSh m h) : Fr h 43 m = some (m + 4) ∧ Kd h (m + 4) = 101 ∧ Ln h (m + 4) = 4 := s.2 (43, 4, 101, 4) (by decide)
theorem MSh.hard_ {m : Nat} {h : Hp} (s : MSh m h) : Fr h 44 m = some (m + 5) ∧ Kd h (m + 5) = 101 ∧ Ln h (m + 5) = 4 := s.2 (44, 5, 101, 4) (by decide)
theorem MSh.corner_ {m : Nat} {h : Hp} (s : MSh m h) : Fr h 45 m = some (m + 6) ∧ Kd h (m + 6) = 101 ∧ Ln h (m + 6) = 10 := s.2 (45, 6, 101, 10) (by decide)
theorem MSh.weak_ {m : Nat} {h : Hp} (s : MSh m h) : Fr h 46 m = some (m + 7) ∧ Kd h (m + 7) = 101 ∧ Ln h (m + 7) = 10 := s.2 (46, 7, 101, 10) (by decide)
theorem MSh.day_ {m : Nat} {h : Hp} (s : MSh m h) : Fr h 47 m = some (m + 8) ∧ Kd h (m + 8) = 101 ∧ Ln h (m + 8) = 10 := s.2 (47, 8, 101, 10) (by decide)
theorem MSh.night_ {m : Nat} {h : Hp} (s : MSh m h) : Fr h 48 m = some (m + 9) ∧ Kd h (m + 9) = 101 ∧ Ln h (m + 9) = 10 := s.2 (48, 9, 101, 10) (by decide)
theorem MSh.cost_ {m : Nat} {h : Hp} (s : MSh m h) : Fr h 49 m = some (m + 10) ∧ Kd h (m + 10) = 101 ∧ Ln h (m + 10) = 10 := s.2 (49, 10, 101, 10) (by decide)
theorem MSh.front_ {m : Nat} {h : Hp} (s : MSh m h) : Fr h 50 m = some (m + 11) ∧ Kd h (m + 11) = 101 ∧ Ln h (m + 11) = 10 := s.2 (50, 11, 101, 10) (by decide)
theorem MSh.next_ {m : Nat} {h : Hp} (s : MSh m h) : Fr h 51 m = some (m + 12) ∧ Kd h (m + 12) = 101 ∧ Ln h (m + 12) = 10 := s.2 (51, 12, 101, 10) (by decide)
theorem MSh.steps_ {m : Nat} {h : Hp} (s : MSh m h) : Fr h 52 m = some (m + 13) ∧ Kd h (m + 13) = 101 ∧ Ln h (m + 13) = 10 := s.2 (52, 13, 101, 10) (by decide)
theorem MSh.propped_ {m : Nat} {h : Hp} (s : MSh m h) : Fr h 53 m = some (m + 14) ∧ Kd h (m + 14) = 101 ∧ Ln h (m + 14) = 10 := s.2 (53, 14, 101, 10) (by decide)
theorem MSh.held_ {m : Nat} {h : Hp} (s : MSh m h) : Fr h 54 m = some (m + 15) ∧ Kd h (m + 15) = 101 ∧ Ln h (m + 15) = 8 := s.2 (54, 15, 101, 8) (by decide)
theorem MSh.sort_ {m : Nat} {h : Hp} (s : MSh m h) : Fr h 55 m = some (m + 16) ∧ Kd h (m + 16) = 101 ∧ Ln h (m + 16) = 8 := s.2 (55, 16, 101, 8) (by decide)
theorem MSh.size_ {m : Nat} {h : Hp} (s : MSh m h) : Fr h 56 m = some (m + 17) ∧ Kd h (m + 17) = 101 ∧ Ln h (m + 17) = 8 := s.2 (56, 17, 101, 8) (by decide)
theorem MSh.kind_ {m : Nat} {h : Hp} (s : MSh m h) : Fr h 57 m = some (m + 18) ∧ Kd h (m + 18) = 101 ∧ Ln h (m + 18) = 8 := s.2 (57, 18, 101, 8) (by decide)
theorem MSh.by_ {m : Nat} {h : Hp} (s : MSh m h) : Fr h 58 m = some (m + 19) ∧ Kd h (m + 19) = 101 ∧ Ln h (m + 19) = 8 := s.2 (58, 19, 101, 8) (by decide)
theorem MSh.cells_ {m : Nat} {h : Hp} (s : MSh m h) : Fr h 59 m = some (m + 20) ∧ Kd h (m + 20) = 102 ∧ Ln h (m + 20) = 960 := s.2 (59, 20, 102, 960) (by decide)
theorem MSh.carried_ {m : Nat} {h : Hp} (s : MSh m h) : Fr h 60 m = some (m + 21) ∧ Kd h (m + 21) = 102 ∧ Ln h (m + 21) = 120 := s.2 (60, 21, 102, 120) (by decide)
theorem MSh.words_ {m : Nat} {h : Hp} (s : MSh m h) : Fr h 61 m = some (m + 22) ∧ Kd h (m + 22) = 101 ∧ Ln h (m + 22) = 58 := s.2 (61, 22, 101, 58) (by decide)
theorem MSh.was_ {m : Nat} {h : Hp} (s : MSh m h) : Fr h 67 m = some (m + 23) ∧ Kd h (m + 23) = 101 ∧ Ln h (m + 23) = 150 := s.2 (67, 23, 101, 150) (by decide)
theorem MSh.kept_ {m : Nat} {h : Hp} (s : MSh m h) : Fr h 68 m = some (m + 24) ∧ Kd h (m + 24) = 101 ∧ Ln h (m + 24) = 150 := s.2 (68, 24, 101, 150) (by decide)
theorem MSh.aside_ {m : Nat} {h : Hp} (s : MSh m h) : Fr h 69 m = some (m + 25) ∧ Kd h (m + 25) = 101 ∧ Ln h (m + 25) = 150 := s.2 (69, 25, 101, 150) (by decide)
theorem MSh.odds_ {m : Nat} {h : Hp} (s : MSh m h) : Fr h 70 m = some (m + 26) ∧ Kd h (m + 26) = 102 ∧ Ln h (m + 26) = 1024 := s.2 (70, 26, 102, 1024) (by decide)
theorem MSh.worths_ {m : Nat} {h : Hp} (s : MSh m h) : Fr h 71 m = some (m + 27) ∧ Kd h (m + 27) = 102 ∧ Ln h (m + 27) = 1024 := s.2 (71, 27, 102, 1024) (by decide)
theorem MSh.order_ {m : Nat} {h : Hp} (s : MSh m h) : Fr h 72 m = some (m + 28) ∧ Kd h (m + 28) = 101 ∧ Ln h (m + 28) = 10 := s.2 (72, 28, 101, 10) (by decide)
theorem MSh.row_ {m : Nat} {h : Hp} (s : MSh m h) : Fr h 74 m = some (m + 29) ∧ Kd h (m + 29) = 101 ∧ Ln h (m + 29) = 10 := s.2 (74, 29, 101, 10) (by decide)
theorem MSh.best_ {m : Nat} {h : Hp} (s : MSh m h) : Fr h 78 m = some (m + 30) ∧ Kd h (m + 30) = 101 ∧ Ln h (m + 30) = 10 := s.2 (78, 30, 101, 10) (by decide)
theorem MSh.tried_ {m : Nat} {h : Hp} (s : MSh m h) : Fr h 79 m = some (m + 31) ∧ Kd h (m + 31) = 101 ∧ Ln h (m + 31) = 10 := s.2 (79, 31, 101, 10) (by decide)
theorem MSh.trace_ {m : Nat} {h : Hp} (s : MSh m h) : Fr h 82 m = some (m + 32) ∧ Kd h (m + 32) = 101 ∧ Ln h (m + 32) = 20 := s.2 (82, 32, 101, 20) (by decide)
