/-! sets as masks -/
theorem sj_bt1 : ∀ i, i < 32 → bt 1 i = decide (i = 0) := by decide +kernel
theorem sj_and1_0 (y : Int32) : (y &&& 1) = 0 ↔ bt y 0 = false := by
  constructor
  · intro h
    have e := congrArg (fun z => bt z 0) h
    try dsimp only at e
    rw [b_and, b_0, sj_bt1 0 (by omega)] at e
    simpa using e
  · intro h
    apply b_ext
    intro i hi
    rw [b_and, b_0, sj_bt1 i hi]
    by_cases e : i = 0
    · rw [e, h]; rfl
    · rw [decide_eq_false e, Bool.and_false]
theorem sj_and1_1 (y : Int32) : (y &&& 1) = 1 ↔ bt y 0 = true := by
  constructor
  · intro h
    have e := congrArg (fun z => bt z 0) h
    try dsimp only at e
    rw [b_and, sj_bt1 0 (by omega)] at e
    simpa using e
  · intro h
    apply b_ext
    intro i hi
    rw [b_and, sj_bt1 i hi]
    by_cases e : i = 0
    · rw [e, h]; rfl
    · rw [decide_eq_false e, Bool.and_false]
theorem sj_sh0 (x : Int32) {i : Nat} (hi : i < 32) : bt (x >>> (nI i &&& 31)) 0 = bt x i := by
  rw [b_sshr i hi x (by omega), if_pos (by omega)]
  rfl
theorem sj_bit0 (x : Int32) {i : Nat} (hi : i < 32) : ((x >>> (nI i &&& 31)) &&& 1) = 0 ↔ bt x i = false := by
  rw [sj_and1_0, sj_sh0 x hi]
theorem sj_bit1 (x : Int32) {i : Nat} (hi : i < 32) : ((x >>> (nI i &&& 31)) &&& 1) = 1 ↔ bt x i = true := by
  rw [sj_and1_1, sj_sh0 x hi]
theorem sj_one {i j : Nat} (hi : i < 32) (hj : j < 32) : bt ((1 : Int32) <<< (nI i &&& 31)) j = decide (j = i) := by
  rw [b_shl i hi 1 hj, sj_bt1 _ (by omega)]
  by_cases e : j = i
  · subst e; simp
  · rw [decide_eq_false e]
    by_cases c : i ≤ j
    · rw [decide_eq_false (show ¬ j - i = 0 by omega), Bool.and_false]
    · rw [decide_eq_false c, Bool.false_and]
theorem sj_set (x : Int32) {i j : Nat} (hi : i < 32) (hj : j < 32) : bt (x ||| ((1 : Int32) <<< (nI i &&& 31))) j = sj_ins (bt x) i j := by
  rw [b_or, sj_one hi hj]
  rfl
theorem sj_clr (x : Int32) {i j : Nat} (hi : i < 32) (hj : j < 32) : bt (x &&& (((1 : Int32) <<< (nI i &&& 31)) ^^^ (-1))) j = sj_del (bt x) i j := by
  rw [b_and, b_xor, sj_one hi hj, b_m1 j hj]
  unfold sj_del
  cases decide (j = i) <;> rfl
theorem sj_btN {s : Nat} (hs : s < 1024) (j : Nat) : bt (nI s) j = s.testBit j := by
  have e : (nI s).toBitVec.toNat = s := pk_tn (by omega)
  show (nI s).toBitVec.getLsbD j = _
  rw [← BitVec.testBit_toNat, e]
theorem sj_ofBt (y : Int32) (h : ∀ j, 10 ≤ j → j < 32 → bt y j = false) : ∃ t : Nat, t < 1024 ∧ y = nI t ∧ ∀ j, t.testBit j = bt y j := by
  have hb : ∀ j, y.toBitVec.toNat.testBit j = bt y j := fun j => BitVec.testBit_toNat _
  refine ⟨y.toBitVec.toNat, ?_, ?_, hb⟩
  · show y.toBitVec.toNat < 2 ^ 10
    apply Nat.lt_pow_two_of_testBit
    intro j hj
    rw [hb]
    by_cases c : j < 32
    · exact h j hj c
    · exact b_big (by omega)
  · apply Int32.toBitVec_inj.mp
    apply BitVec.eq_of_toNat_eq
    exact (pk_tn y.toBitVec.isLt).symm
theorem sj_tbig {s : Nat} (hs : s < 1024) {j : Nat} (hj : 10 ≤ j) : s.testBit j = false :=
  Nat.testBit_lt_two_pow (Nat.lt_of_lt_of_le hs (Nat.pow_le_pow_right (by decide) hj : 2 ^ 10 ≤ 2 ^ j))
theorem sj_clrN {s i : Nat} (hs : s < 1024) (hi : i < 10) (hb : s.testBit i = true) :
    ∃ t : Nat, t < s ∧ nI s &&& (((1 : Int32) <<< (nI i &&& 31)) ^^^ (-1)) = nI t ∧ ∀ j, t.testBit j = sj_del (fun j => s.testBit j) i j := by
  have hbit : ∀ j, j < 32 → bt (nI s &&& (((1 : Int32) <<< (nI i &&& 31)) ^^^ (-1))) j = sj_del (fun j => s.testBit j) i j := by
    intro j hj
    rw [sj_clr _ (by omega) hj]
    unfold sj_del
    rw [sj_btN hs]
  obtain ⟨t, ht, e, hz⟩ := sj_ofBt (nI s &&& (((1 : Int32) <<< (nI i &&& 31)) ^^^ (-1))) (by
    intro j h1 h2
    rw [hbit j h2]
    show (s.testBit j && !decide (j = i)) = false
    rw [sj_tbig hs h1]
    rfl)
  have hall : ∀ j, t.testBit j = sj_del (fun j => s.testBit j) i j := by
    intro j
    by_cases c : j < 32
    · rw [hz, hbit j c]
    · rw [sj_tbig ht (by omega)]
      show false = (s.testBit j && !decide (j = i))
      rw [sj_tbig hs (j := j) (by omega)]
      rfl
  refine ⟨t, ?_, e, hall⟩
  have hle : t ≤ s := by
    have e2 := congrArg (fun z : Int32 => z.toBitVec.toNat) e
    try dsimp only at e2
    rw [Int32.toBitVec_and, BitVec.toNat_and, pk_tn (n := s) (by omega), pk_tn (n := t) (by omega)] at e2
    rw [← e2]
    exact Nat.and_le_left
  have hne : t ≠ s := by
    intro q
    have z := hall i
    rw [q, hb] at z
    unfold sj_del at z
    rw [decide_eq_true rfl, Bool.not_true, Bool.and_false] at z
    cases z
  omega
theorem sj_subN {a : Int32} {s : Nat} (hs : s < 1024) (ha : ∀ j, 10 ≤ j → j < 32 → bt a j = false) : (a &&& (nI s ^^^ (-1))) = 0 ↔ sj_sub (bt a) (fun j => s.testBit j) := by
  constructor
  · intro h i hi hb
    have e := congrArg (fun z => bt z i) h
    try dsimp only at e
    rw [b_and, b_xor, b_0, b_m1 i (by omega), sj_btN hs, hb] at e
    show s.testBit i = true
    revert e
    cases s.testBit i <;> simp
  · intro h
    apply b_ext
    intro i hi
    rw [b_and, b_xor, b_0, b_m1 i hi, sj_btN hs]
    by_cases c : i < 11
    · by_cases e : bt a i = true
      · have z : s.testBit i = true := h i c e
        rw [e, z]; rfl
      · rw [Bool.not_eq_true] at e
        rw [e, Bool.false_and]
    · rw [ha i (by omega) hi, Bool.false_and]
/-- the mask of a set below n -/
def sj_mk (S : Nat → Bool) : Nat → Nat
  | 0 => 0
  | n + 1 => sj_mk S n ||| (if S n = true then 2 ^ n else 0)
theorem sj_mk_bit (S : Nat → Bool) : ∀ n j : Nat, (sj_mk S n).testBit j = (decide (j < n) && S j) := by
  intro n
  induction n with
  | zero => intro j; show Nat.testBit 0 j = _; rw [Nat.zero_testBit]; simp
  | succ n ih =>
    intro j
    show (sj_mk S n ||| (if S n = true then 2 ^ n else 0)).testBit j = _
    rw [Nat.testBit_or, ih]
    by_cases e : j = n
    · subst e
      rw [decide_eq_false (Nat.lt_irrefl j), Bool.false_and, Bool.false_or, decide_eq_true (Nat.lt_succ_self j), Bool.true_and]
      by_cases q : S j = true
      · rw [if_pos q, q, Nat.testBit_two_pow_self]
      · rw [if_neg q, Nat.zero_testBit]
        rw [Bool.not_eq_true] at q
        exact q.symm
    · have hz : (if S n = true then 2 ^ n else 0 : Nat).testBit j = false := by
        by_cases q : S n = true
        · rw [if_pos q, Nat.testBit_two_pow]
          exact decide_eq_false (fun z => e z.symm)
        · rw [if_neg q, Nat.zero_testBit]
      rw [hz, Bool.or_false]
      by_cases c : j < n
      · rw [decide_eq_true c, decide_eq_true (show j < n + 1 by omega)]
      · rw [decide_eq_false c, decide_eq_false (show ¬ j < n + 1 by omega)]
theorem sj_mk_lt (S : Nat → Bool) : sj_mk S 10 < 1024 := by
  show sj_mk S 10 < 2 ^ 10
  apply Nat.lt_pow_two_of_testBit
  intro j hj
  rw [sj_mk_bit, decide_eq_false (by omega), Bool.false_and]
/-! stores into small types -/
theorem sj_b8 : ∀ i, i < 128 → (nI i).toInt8.toInt32 = nI i := by decide +kernel
theorem sj_s16 : ∀ i, i < 256 → (nI i).toInt16.toInt32 = nI i := by decide +kernel
theorem sj_nb {i : Nat} (h : i < 128) : vp_nar .byte (nI i) = nI i := by rw [vp_nar_byte, sj_b8 i h]
theorem sj_nb2 {i : Nat} (h : i < 128) : vp_nar .byte (nI i).toInt8.toInt32 = nI i := by rw [sj_b8 i h, sj_nb h]
theorem sj_ns2 {i : Nat} (h : i < 256) : vp_nar .short (nI i).toInt16.toInt32 = nI i := by rw [vp_nar_short, sj_s16 i h, sj_s16 i h]
theorem sj_n01 {x : Int32} (h : x = 0 ∨ x = 1) : vp_nar .boolean x = x := by
  rcases h with h | h <;> rw [h] <;> rfl
theorem sj_nar {x : Int32} (h : x = 0 ∨ x = 1) : narrow .boolean (.int x) = .int x := by
  rcases h with h | h <;> rw [h] <;> rfl
theorem sj_eq0 {n : Nat} (h : n < 2 ^ 31) : nI n = 0 ↔ n = 0 := by
  rw [← nI_0]; exact nI_eq h (by decide)
theorem sj_le0 {n : Nat} (h : n < 2 ^ 31) : nI n ≤ 0 ↔ n = 0 := by
  rw [← nI_0, nI_leI h (by decide)]; omega
theorem ek_c {c d A B : Prop} (e : c ↔ d) (f : d → A) (g : ¬ d → B) : (c → A) ∧ (¬ c → B) :=
  ⟨fun z => f (e.mp z), fun z => g (fun y => z (e.mpr y))⟩
