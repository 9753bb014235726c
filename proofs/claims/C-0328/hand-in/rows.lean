section
/-! rows of the kit (starting text): kit/rows/PURE-ROWS and BITS -/
theorem pk_us {f : Nat → Int32} {k : Nat} {x : Int32} : upd f k x k = x := if_pos rfl
theorem pk_un {f : Nat → Int32} {k j : Nat} {x : Int32} (h : j ≠ k) : upd f k x j = f j := if_neg h
theorem pk_sub {a b : Nat} (h : b ≤ a) : nI a - nI b = nI (a - b) := by
  obtain ⟨c, rfl⟩ : ∃ c, a = c + b := ⟨a - b, by omega⟩
  rw [← nI_add, Int32.add_sub_cancel, Nat.add_sub_cancel]
theorem pk_m1 (n : Nat) : nI (n + 1) + (-1) = nI n := by
  rw [← nI_1, Int32.add_assoc, show (1 : Int32) + (-1) = 0 from rfl, Int32.add_zero]
theorem pk_sub_toInt {a b : Nat} (ha : a < 2 ^ 30) (hb : b < 2 ^ 30) : (nI a - nI b).toInt = (a : Int) - b := by
  rw [Int32.toInt_sub, nI_toInt (by omega), nI_toInt (by omega)]
  exact Int.bmod_eq_of_le (by omega) (by omega)
theorem pk_sneg {a b : Nat} (hb : b < 2 ^ 30) (h : a < b) : nI a - nI b < 0 := by
  rw [Int32.lt_iff_toInt_lt, pk_sub_toInt (by omega) hb, show (0 : Int32).toInt = 0 from by decide]
  omega
theorem pk_ix (x : Int32) {n : Nat} (hn : n < 2 ^ 31) : x < 0 ∨ nI n ≤ x ∨ ∃ j : Nat, j < n ∧ x = nI j := by
  by_cases h : x < 0
  · exact Or.inl h
  · obtain ⟨j, hj, rfl⟩ := nI_of h
    by_cases h2 : j < n
    · exact Or.inr (Or.inr ⟨j, h2, rfl⟩)
    · exact Or.inr (Or.inl (nI_le (by omega) hj))
theorem pk_le {x y : Int32} {A B : Prop} (a b : Nat) (f : a ≤ b → A) (g : b < a → B) (hx : x = nI a := by rfl) (hy : y = nI b := by rfl) (ha : a < 2 ^ 31 := by omega) (hb : b < 2 ^ 31 := by omega) : (x ≤ y → A) ∧ (¬ x ≤ y → B) := by
  subst hx hy
  rw [nI_leI ha hb]
  exact ⟨f, fun z => g (by omega)⟩
theorem pk_lt {x y : Int32} {A B : Prop} (a b : Nat) (f : a < b → A) (g : b ≤ a → B) (hx : x = nI a := by rfl) (hy : y = nI b := by rfl) (ha : a < 2 ^ 31 := by omega) (hb : b < 2 ^ 31 := by omega) : (x < y → A) ∧ (¬ x < y → B) := by
  subst hx hy
  rw [nI_ltI ha hb]
  exact ⟨f, fun z => g (by omega)⟩
theorem pk_eq {x y : Int32} {A B : Prop} (a b : Nat) (f : a = b → A) (g : a ≠ b → B) (hx : x = nI a := by rfl) (hy : y = nI b := by rfl) (ha : a < 2 ^ 31 := by omega) (hb : b < 2 ^ 31 := by omega) : (x = y → A) ∧ (¬ x = y → B) := by
  subst hx hy
  rw [nI_eq ha hb]
  exact ⟨f, g⟩
theorem pk_in {x : Int32} (n N : Nat) (h : n < N) (hx : x = nI n := by rfl) (hN : N < 2 ^ 31 := by omega) : vp_in x N := by
  subst hx
  exact vp_in_nI h hN
theorem pk_cl {x : Int32} (n : Nat) (hx : x = nI n := by rfl) (h : n < 2 ^ 31 := by omega) : x.toNatClampNeg = n := by
  subst hx
  exact nI_clamp h
theorem pk_tn {n : Nat} (h : n < 2 ^ 32) : (nI n).toBitVec.toNat = n := Nat.mod_eq_of_lt h
def bt (x : Int32) (i : Nat) : Bool := x.toBitVec.getLsbD i
theorem b_ext {x y : Int32} (h : ∀ i, i < 32 → bt x i = bt y i) : x = y := Int32.toBitVec_inj.mp (BitVec.eq_of_getLsbD_eq (fun i hi => h i hi))
theorem b_or (x y : Int32) (i : Nat) : bt (x ||| y) i = (bt x i || bt y i) := by unfold bt; rw [Int32.toBitVec_or, BitVec.getLsbD_or]
theorem b_and (x y : Int32) (i : Nat) : bt (x &&& y) i = (bt x i && bt y i) := by unfold bt; rw [Int32.toBitVec_and, BitVec.getLsbD_and]
theorem b_xor (x y : Int32) (i : Nat) : bt (x ^^^ y) i = (bt x i ^^ bt y i) := by unfold bt; rw [Int32.toBitVec_xor, BitVec.getLsbD_xor]
theorem b_big {x : Int32} {i : Nat} (h : 32 ≤ i) : bt x i = false := BitVec.getLsbD_of_ge _ _ h
theorem b_m1 : ∀ i, i < 32 → bt (-1) i = true := by decide +kernel
theorem b_0 (i : Nat) : bt 0 i = false := BitVec.getLsbD_zero
theorem s_l : ∀ n, n < 32 → ((nI n &&& 31).toBitVec.smod 32).toNat = n := by decide +kernel
theorem b_shl (n : Nat) (hn : n < 32) (x : Int32) {i : Nat} (hi : i < 32) : bt (x <<< (nI n &&& 31)) i = (decide (n ≤ i) && bt x (i - n)) := by
  unfold bt
  rw [Int32.toBitVec_shiftLeft]
  show (x.toBitVec <<< ((nI n &&& 31).toBitVec.smod 32).toNat).getLsbD i = _
  rw [s_l n hn, BitVec.getLsbD_shiftLeft]
  rcases Nat.lt_or_ge i n with h | h
  · simp [h, Nat.not_le.mpr h]
  · simp [hi, h, Nat.not_lt.mpr h]
theorem b_sshr (n : Nat) (hn : n < 32) (x : Int32) {i : Nat} (hi : i < 32) : bt (x >>> (nI n &&& 31)) i = if n + i < 32 then bt x (n + i) else bt x 31 := by
  unfold bt
  rw [Int32.toBitVec_shiftRight]
  show (x.toBitVec.sshiftRight ((nI n &&& 31).toBitVec.smod 32).toNat).getLsbD i = _
  rw [s_l n hn, BitVec.getLsbD_sshiftRight, BitVec.msb_eq_getLsbD_last]
  simp [hi]
end
section
/-! the plain law: sets of places, their time and size, feasibility without an order, the greedy choice -/
def sj_sm (f : Nat → Nat) : Nat → Nat
  | 0 => 0
  | n + 1 => sj_sm f n + f n
theorem sj_cg {f g : Nat → Nat} : ∀ {n : Nat}, (∀ i, i < n → f i = g i) → sj_sm f n = sj_sm g n := by
  intro n
  induction n with
  | zero => intro _; rfl
  | succ n ih =>
    intro h
    show sj_sm f n + f n = sj_sm g n + g n
    rw [ih (fun i hi => h i (by omega)), h n (by omega)]
theorem sj_le {f g : Nat → Nat} : ∀ {n : Nat}, (∀ i, i < n → f i ≤ g i) → sj_sm f n ≤ sj_sm g n := by
  intro n
  induction n with
  | zero => intro _; exact Nat.le_refl _
  | succ n ih =>
    intro h
    show sj_sm f n + f n ≤ sj_sm g n + g n
    exact Nat.add_le_add (ih (fun i hi => h i (by omega))) (h n (by omega))
theorem sj_up {f g : Nat → Nat} {x : Nat} (h : ∀ i, i ≠ x → g i = f i) : ∀ {n : Nat}, x < n → sj_sm g n + f x = sj_sm f n + g x := by
  intro n
  induction n with
  | zero => intro hx; omega
  | succ n ih =>
    intro hx
    show sj_sm g n + g n + f x = sj_sm f n + f n + g x
    by_cases e : x = n
    · subst e
      have := sj_cg (n := x) (fun i hi => h i (by omega))
      omega
    · have h1 := ih (by omega)
      have h2 := h n (fun z => e z.symm)
      omega
theorem sj_const : ∀ n : Nat, sj_sm (fun _ => 1) n = n := by
  intro n
  induction n with
  | zero => rfl
  | succ n ih =>
    show sj_sm (fun _ => 1) n + 1 = n + 1
    rw [ih]
theorem sj_zero : ∀ n : Nat, sj_sm (fun _ => 0) n = 0 := by
  intro n
  induction n with
  | zero => rfl
  | succ n ih => exact ih
def sj_tm (L : Nat → Nat) (S : Nat → Bool) : Nat := sj_sm (fun i => if S i = true then L i else 0) 11
abbrev sj_cn (S : Nat → Bool) : Nat := sj_tm (fun _ => 1) S
def sj_ins (S : Nat → Bool) (x : Nat) : Nat → Bool := fun i => S i || decide (i = x)
def sj_del (S : Nat → Bool) (x : Nat) : Nat → Bool := fun i => S i && !decide (i = x)
theorem sj_insI {S : Nat → Bool} {x i : Nat} : sj_ins S x i = true ↔ S i = true ∨ i = x := by simp [sj_ins]
theorem sj_delI {S : Nat → Bool} {x i : Nat} : sj_del S x i = true ↔ S i = true ∧ i ≠ x := by simp [sj_del]
def sj_sub (S T : Nat → Bool) : Prop := ∀ i, i < 11 → S i = true → T i = true
theorem sj_tm_mono {L : Nat → Nat} {S T : Nat → Bool} (h : sj_sub S T) : sj_tm L S ≤ sj_tm L T := by
  apply sj_le
  intro i hi
  by_cases e : S i = true
  · rw [if_pos e, if_pos (h i hi e)]; exact Nat.le_refl _
  · rw [if_neg e]; exact Nat.zero_le _
theorem sj_tm_cg {L : Nat → Nat} {S T : Nat → Bool} (h : ∀ i, i < 11 → (S i = true ↔ T i = true)) : sj_tm L S = sj_tm L T :=
  Nat.le_antisymm (sj_tm_mono fun i hi => (h i hi).mp) (sj_tm_mono fun i hi => (h i hi).mpr)
theorem sj_tm_L {L L' : Nat → Nat} {S : Nat → Bool} (h : ∀ i, i < 11 → S i = true → L i = L' i) : sj_tm L S = sj_tm L' S := by
  apply sj_cg
  intro i hi
  by_cases e : S i = true
  · rw [if_pos e, if_pos e, h i hi e]
  · rw [if_neg e, if_neg e]
theorem sj_tm_0 {L : Nat → Nat} {S : Nat → Bool} (h : ∀ i, i < 11 → ¬ S i = true) : sj_tm L S = 0 := by
  rw [← sj_zero 11]
  apply sj_cg
  intro i hi
  rw [if_neg (h i hi)]
theorem sj_tm_ins {L : Nat → Nat} {S : Nat → Bool} {x : Nat} (hx : x < 11) (h : ¬ S x = true) : sj_tm L (sj_ins S x) = sj_tm L S + L x := by
  have e := sj_up (f := fun i => if S i = true then L i else 0) (g := fun i => if sj_ins S x i = true then L i else 0) (x := x) (by
    intro i hi
    by_cases e : S i = true
    · show (if sj_ins S x i = true then L i else 0) = (if S i = true then L i else 0)
      rw [if_pos e, if_pos (sj_insI.mpr (Or.inl e))]
    · show (if sj_ins S x i = true then L i else 0) = (if S i = true then L i else 0)
      rw [if_neg e, if_neg (fun z => (sj_insI.mp z).elim e hi)]) hx
  rw [if_neg h, if_pos (sj_insI.mpr (Or.inr rfl))] at e
  exact e
theorem sj_tm_del {L : Nat → Nat} {S : Nat → Bool} {x : Nat} (hx : x < 11) (h : S x = true) : sj_tm L (sj_del S x) + L x = sj_tm L S := by
  have e := sj_tm_ins (L := L) (S := sj_del S x) hx (fun z => (sj_delI.mp z).2 rfl)
  rw [← e]
  apply sj_tm_cg
  intro i hi
  rw [sj_insI, sj_delI]
  constructor
  · intro z
    rcases z with z | z
    · exact z.1
    · rw [z]; exact h
  · intro z
    by_cases e : i = x
    · exact Or.inr e
    · exact Or.inl ⟨z, e⟩
theorem sj_cn_mono {S T : Nat → Bool} (h : sj_sub S T) : sj_cn S ≤ sj_cn T := sj_tm_mono h
theorem sj_cn_cg {S T : Nat → Bool} (h : ∀ i, i < 11 → (S i = true ↔ T i = true)) : sj_cn S = sj_cn T := sj_tm_cg h
theorem sj_cn_ins {S : Nat → Bool} {x : Nat} (hx : x < 11) (h : ¬ S x = true) : sj_cn (sj_ins S x) = sj_cn S + 1 := sj_tm_ins hx h
theorem sj_cn_del {S : Nat → Bool} {x : Nat} (hx : x < 11) (h : S x = true) : sj_cn (sj_del S x) + 1 = sj_cn S := sj_tm_del hx h
theorem sj_cn_le (S : Nat → Bool) : sj_cn S ≤ 11 := by
  have h := sj_le (f := fun i => if S i = true then 1 else 0) (g := fun _ => 1) (n := 11) (by
    intro i _
    by_cases e : S i = true
    · show (if S i = true then 1 else 0) ≤ 1
      rw [if_pos e]; exact Nat.le_refl _
    · show (if S i = true then 1 else 0) ≤ 1
      rw [if_neg e]; exact Nat.zero_le _)
  rw [sj_const] at h
  exact h
theorem sj_sm_bd {f : Nat → Nat} {b : Nat} (h : ∀ i, f i ≤ b) : ∀ n : Nat, sj_sm f n ≤ n * b := by
  intro n
  induction n with
  | zero => exact Nat.zero_le _
  | succ n ih =>
    have := h n
    show sj_sm f n + f n ≤ (n + 1) * b
    rw [Nat.succ_mul]
    omega
theorem sj_tm_bd {L : Nat → Nat} {S : Nat → Bool} {b : Nat} (h : ∀ i, i < 11 → L i ≤ b) : sj_tm L S ≤ 11 * b := by
  have h1 := sj_sm_bd (f := fun i => if i < 11 then (if S i = true then L i else 0) else 0) (b := b) (by
    intro i
    show (if i < 11 then (if S i = true then L i else 0) else 0) ≤ b
    by_cases e : i < 11
    · rw [if_pos e]
      by_cases e2 : S i = true
      · rw [if_pos e2]; exact h i e
      · rw [if_neg e2]; exact Nat.zero_le _
    · rw [if_neg e]; exact Nat.zero_le _) 11
  have h2 := sj_cg (f := fun i => if i < 11 then (if S i = true then L i else 0) else 0) (g := fun i => if S i = true then L i else 0) (n := 11) (fun i hi => by
    show (if i < 11 then (if S i = true then L i else 0) else 0) = _
    rw [if_pos hi])
  rw [h2] at h1
  exact h1
/-- feasible, without an order: the time of all jobs of no greater deadline is within each job's deadline -/
def sj_fe (L D : Nat → Nat) (S : Nat → Bool) : Prop := ∀ j, j < 11 → S j = true → sj_tm L (fun i => S i && decide (D i ≤ D j)) ≤ D j
theorem sj_and {a : Bool} {p : Prop} [Decidable p] : (a && decide p) = true ↔ a = true ∧ p := by simp
theorem sj_fe_mono {L D : Nat → Nat} {S T : Nat → Bool} (h : sj_sub S T) (hT : sj_fe L D T) : sj_fe L D S := by
  intro j hj hs
  refine Nat.le_trans (sj_tm_mono ?_) (hT j hj (h j hj hs))
  intro i hi z
  exact sj_and.mpr ⟨h i hi (sj_and.mp z).1, (sj_and.mp z).2⟩
theorem sj_fe_LD {L D L' D' : Nat → Nat} {S : Nat → Bool} (h : ∀ i, i < 11 → S i = true → L' i = L i ∧ D' i = D i) (hS : sj_fe L D S) : sj_fe L' D' S := by
  intro j hj hs
  have e := hS j hj hs
  rw [(h j hj hs).2]
  refine Nat.le_trans (Nat.le_of_eq ?_) e
  rw [sj_tm_L (L' := L) (fun i hi z => (h i hi (sj_and.mp z).1).1)]
  apply sj_tm_cg
  intro i hi
  rw [sj_and, sj_and]
  constructor
  · intro z
    rw [← (h i hi z.1).2]; exact z
  · intro z
    rw [(h i hi z.1).2]; exact z
theorem sj_argmax (D : Nat → Nat) (S : Nat → Bool) : ∀ n : Nat, (∀ i, i < n → ¬ S i = true) ∨ ∃ j, j < n ∧ S j = true ∧ ∀ i, i < n → S i = true → D i ≤ D j := by
  intro n
  induction n with
  | zero => exact Or.inl (fun i hi => by omega)
  | succ n ih =>
    by_cases e : S n = true
    · rcases ih with h | ⟨j, hj, hs, hm⟩
      · refine Or.inr ⟨n, by omega, e, fun i hi hs => ?_⟩
        by_cases q : i = n
        · rw [q]; exact Nat.le_refl _
        · exact absurd hs (h i (by omega))
      · by_cases c : D n ≤ D j
        · refine Or.inr ⟨j, by omega, hs, fun i hi hs' => ?_⟩
          by_cases q : i = n
          · rw [q]; exact c
          · exact hm i (by omega) hs'
        · refine Or.inr ⟨n, by omega, e, fun i hi hs' => ?_⟩
          by_cases q : i = n
          · rw [q]; exact Nat.le_refl _
          · have := hm i (by omega) hs'
            omega
    · rcases ih with h | ⟨j, hj, hs, hm⟩
      · refine Or.inl fun i hi => ?_
        by_cases q : i = n
        · rw [q]; exact e
        · exact h i (by omega)
      · refine Or.inr ⟨j, by omega, hs, fun i hi hs' => ?_⟩
        by_cases q : i = n
        · rw [q] at hs'; exact absurd hs' e
        · exact hm i (by omega) hs'
theorem sj_fe_bd {L D : Nat → Nat} {S : Nat → Bool} {d : Nat} (h : sj_fe L D S) (hd : ∀ i, i < 11 → S i = true → D i ≤ d) : sj_tm L S ≤ d := by
  rcases sj_argmax D S 11 with z | ⟨j, hj, hs, hm⟩
  · rw [sj_tm_0 z]; exact Nat.zero_le _
  · have h1 := h j hj hs
    have h2 : sj_tm L S ≤ sj_tm L (fun i => S i && decide (D i ≤ D j)) := sj_tm_mono fun i hi z => sj_and.mpr ⟨z, hm i hi z⟩
    have h3 := hd j hj hs
    omega
theorem sj_fe_ins {L D : Nat → Nat} {S : Nat → Bool} {x : Nat} (hd : ∀ i, i < 11 → S i = true → D i ≤ D x) (h : sj_fe L D S) (ht : sj_tm L (sj_ins S x) ≤ D x) : sj_fe L D (sj_ins S x) := by
  intro j hj hs
  by_cases c : D x ≤ D j
  · have h2 : sj_tm L (fun i => sj_ins S x i && decide (D i ≤ D j)) ≤ sj_tm L (sj_ins S x) := sj_tm_mono fun i _ z => (sj_and.mp z).1
    omega
  · have hs' : S j = true := by
      rcases sj_insI.mp hs with z | z
      · exact z
      · rw [z] at c; exact absurd (Nat.le_refl _) c
    refine Nat.le_trans (sj_tm_mono ?_) (h j hj hs')
    intro i hi z
    have z' := sj_and.mp z
    rcases sj_insI.mp z'.1 with q | q
    · exact sj_and.mpr ⟨q, z'.2⟩
    · have := z'.2
      rw [q] at this
      exact absurd this c
/-- a set is good: its jobs are there and it is feasible; as the reference finds it, by a last job -/
def sj_gd (L D : Nat → Nat) (P S : Nat → Bool) : Prop := sj_sub S P ∧ sj_fe L D S
theorem sj_rec {L D : Nat → Nat} {P S : Nat → Bool} (hne : ∃ i, i < 11 ∧ S i = true) :
    sj_gd L D P S ↔ ∃ i, i < 11 ∧ S i = true ∧ P i = true ∧ sj_tm L S ≤ D i ∧ sj_gd L D P (sj_del S i) := by
  constructor
  · intro h
    rcases sj_argmax D S 11 with z | ⟨j, hj, hs, hm⟩
    · obtain ⟨i, hi, hs⟩ := hne
      exact absurd hs (z i hi)
    · have hsub : sj_sub (sj_del S j) S := fun i _ z => (sj_delI.mp z).1
      exact ⟨j, hj, hs, h.1 j hj hs, sj_fe_bd h.2 hm, fun i hi z => h.1 i hi (hsub i hi z), sj_fe_mono hsub h.2⟩
  · intro h
    obtain ⟨i, hi, hs, hp, ht, hg⟩ := h
    refine ⟨fun k hk z => ?_, fun j hj z => ?_⟩
    · by_cases e : k = i
      · rw [e]; exact hp
      · exact hg.1 k hk (sj_delI.mpr ⟨z, e⟩)
    · by_cases c : D i ≤ D j
      · have h2 : sj_tm L (fun k => S k && decide (D k ≤ D j)) ≤ sj_tm L S := sj_tm_mono fun k _ q => (sj_and.mp q).1
        omega
      · have hji : j ≠ i := fun e => c (by rw [e]; exact Nat.le_refl _)
        refine Nat.le_trans (sj_tm_mono ?_) (hg.2 j hj (sj_delI.mpr ⟨z, hji⟩))
        intro k hk q
        have q' := sj_and.mp q
        refine sj_and.mpr ⟨sj_delI.mpr ⟨q'.1, fun e => c ?_⟩, q'.2⟩
        rw [← e]; exact q'.2
theorem sj_gd_cg {L D : Nat → Nat} {P S T : Nat → Bool} (h : ∀ i, i < 11 → (S i = true ↔ T i = true)) : sj_gd L D P S ↔ sj_gd L D P T :=
  ⟨fun z => ⟨fun i hi q => z.1 i hi ((h i hi).mpr q), sj_fe_mono (fun i hi q => (h i hi).mpr q) z.2⟩,
   fun z => ⟨fun i hi q => z.1 i hi ((h i hi).mp q), sj_fe_mono (fun i hi q => (h i hi).mp q) z.2⟩⟩
/-- dominance: each feasible set with all of G is matched in size, at no more time, by a part of T with all of G -/
def sj_dm (L D : Nat → Nat) (A G T : Nat → Bool) : Prop :=
  ∀ S : Nat → Bool, sj_sub S A → sj_fe L D S → sj_sub G S → ∃ T' : Nat → Bool, sj_sub T' T ∧ sj_sub G T' ∧ sj_cn T' = sj_cn S ∧ sj_tm L T' ≤ sj_tm L S
theorem sj_dm_0 {L D : Nat → Nat} {A G T : Nat → Bool} (h : ∀ i, i < 11 → ¬ A i = true) : sj_dm L D A G T :=
  fun S hS _ hG => ⟨S, fun i hi z => absurd (hS i hi z) (h i hi), hG, rfl, Nat.le_refl _⟩
theorem sj_dm_step {L D : Nat → Nat} {A G G' T : Nat → Bool} {x : Nat} (hx : x < 11) (hA : ¬ A x = true) (hT : sj_sub T A) (hG : sj_sub G A)
    (hG' : ∀ i, i < 11 → i ≠ x → (G' i = true ↔ G i = true)) (h : sj_dm L D A G T) : sj_dm L D (sj_ins A x) G' (sj_ins T x) := by
  intro S hSA hS hGS
  have hdel : sj_sub (sj_del S x) S := fun i _ z => (sj_delI.mp z).1
  obtain ⟨T0, h1, h2, h3, h4⟩ := h (sj_del S x)
    (fun i hi z => (sj_insI.mp (hSA i hi (sj_delI.mp z).1)).elim id (fun e => absurd e (sj_delI.mp z).2))
    (sj_fe_mono hdel hS)
    (fun i hi z => by
      have hne : i ≠ x := fun e => hA (by rw [← e]; exact hG i hi z)
      exact sj_delI.mpr ⟨hGS i hi ((hG' i hi hne).mpr z), hne⟩)
  have hx0 : ¬ T0 x = true := fun z => hA (hT x hx (h1 x hx z))
  by_cases hs : S x = true
  · have c1 := sj_cn_ins hx hx0
    have c2 := sj_cn_del hx hs
    have t1 := sj_tm_ins (L := L) hx hx0
    have t2 := sj_tm_del (L := L) hx hs
    refine ⟨sj_ins T0 x, fun i hi z => ?_, fun i hi z => ?_, by omega, by omega⟩
    · exact sj_insI.mpr ((sj_insI.mp z).elim (fun q => Or.inl (h1 i hi q)) Or.inr)
    · by_cases e : i = x
      · exact sj_insI.mpr (Or.inr e)
      · exact sj_insI.mpr (Or.inl (h2 i hi ((hG' i hi e).mp z)))
  · have hcg : ∀ i, i < 11 → (sj_del S x i = true ↔ S i = true) := fun i hi => ⟨hdel i hi, fun z => sj_delI.mpr ⟨z, fun e => hs (by rw [← e]; exact z)⟩⟩
    have c2 := sj_cn_cg hcg
    have t2 := sj_tm_cg (L := L) hcg
    refine ⟨T0, fun i hi z => sj_insI.mpr (Or.inl (h1 i hi z)), fun i hi z => ?_, by omega, by omega⟩
    have e : i ≠ x := fun e => hs (by rw [← e]; exact hGS i hi z)
    exact h2 i hi ((hG' i hi e).mp z)
theorem sj_dm_give {L D : Nat → Nat} {A G T : Nat → Bool} {l d : Nat} (hl : l < 11) (hd : ∀ i, i < 11 → A i = true → D i ≤ d)
    (hlt : d < sj_tm L T) (hlT : T l = true) (hlG : ¬ G l = true) (hmax : ∀ y, y < 11 → T y = true → ¬ G y = true → L y ≤ L l)
    (h : sj_dm L D A G T) : sj_dm L D A G (sj_del T l) := by
  intro S hSA hS hGS
  obtain ⟨T0, h1, h2, h3, h4⟩ := h S hSA hS hGS
  have hb : sj_tm L S ≤ d := sj_fe_bd hS (fun i hi z => hd i hi (hSA i hi z))
  by_cases hl0 : T0 l = true
  · have hy : ∃ y, y < 11 ∧ T y = true ∧ ¬ T0 y = true := by
      apply Classical.byContradiction
      intro hne
      have := sj_tm_mono (L := L) (S := T) (T := T0) (fun i hi z => Classical.byContradiction fun q => hne ⟨i, hi, z, q⟩)
      omega
    obtain ⟨y, hy, hyT, hy0⟩ := hy
    have hyl : y ≠ l := fun e => hy0 (by rw [e]; exact hl0)
    have hyG : ¬ G y = true := fun g => hy0 (h2 y hy g)
    have hyd : ¬ sj_del T0 l y = true := fun z => hy0 (sj_delI.mp z).1
    have c1 := sj_cn_ins hy hyd
    have c2 := sj_cn_del hl hl0
    have t1 := sj_tm_ins (L := L) hy hyd
    have t2 := sj_tm_del (L := L) hl hl0
    have hm := hmax y hy hyT hyG
    refine ⟨sj_ins (sj_del T0 l) y, fun i hi z => ?_, fun i hi z => ?_, by omega, by omega⟩
    · rcases sj_insI.mp z with q | q
      · exact sj_delI.mpr ⟨h1 i hi (sj_delI.mp q).1, (sj_delI.mp q).2⟩
      · rw [q]; exact sj_delI.mpr ⟨hyT, hyl⟩
    · exact sj_insI.mpr (Or.inl (sj_delI.mpr ⟨h2 i hi z, fun e => hlG (by rw [← e]; exact z)⟩))
  · exact ⟨T0, fun i hi z => sj_delI.mpr ⟨h1 i hi z, fun e => hl0 (by rw [← e]; exact z)⟩, h2, h3, h4⟩
theorem sj_dm_none {L D : Nat → Nat} {A G T : Nat → Bool} {d : Nat} (hd : ∀ i, i < 11 → A i = true → D i ≤ d)
    (hlt : d < sj_tm L T) (hall : sj_sub T G) (h : sj_dm L D A G T) (S : Nat → Bool) (hSA : sj_sub S A) (hS : sj_fe L D S) (hGS : sj_sub G S) : False := by
  obtain ⟨T0, h1, h2, h3, h4⟩ := h S hSA hS hGS
  have hb : sj_tm L S ≤ d := sj_fe_bd hS (fun i hi z => hd i hi (hSA i hi z))
  have := sj_tm_mono (L := L) (S := T) (T := T0) (fun i hi z => h2 i hi (hall i hi z))
  omega
theorem sj_dm_fin {L D : Nat → Nat} {A G T : Nat → Bool} (h : sj_dm L D A G T) (S : Nat → Bool) (hSA : sj_sub S A) (hS : sj_fe L D S) (hGS : sj_sub G S) :
    sj_cn S ≤ sj_cn T ∧ (sj_cn S = sj_cn T → sj_tm L T ≤ sj_tm L S) := by
  obtain ⟨T0, h1, h2, h3, h4⟩ := h S hSA hS hGS
  have hc := sj_cn_mono h1
  refine ⟨by omega, fun e => ?_⟩
  have hT : sj_sub T T0 := by
    intro y hy hyT
    apply Classical.byContradiction
    intro hn
    have c := sj_cn_del hy hyT
    have c2 := sj_cn_mono (S := T0) (T := sj_del T y) (fun i hi z => sj_delI.mpr ⟨h1 i hi z, fun e => hn (by rw [← e]; exact z)⟩)
    omega
  have := sj_tm_mono (L := L) hT
  omega
/-- the sets that count, and the best of them -/
def sj_ok (L D : Nat → Nat) (P G S : Nat → Bool) : Prop := sj_gd L D P S ∧ sj_sub G S
def sj_best (L D : Nat → Nat) (P G T : Nat → Bool) : Prop := sj_ok L D P G T ∧ ∀ S, sj_ok L D P G S → sj_cn S ≤ sj_cn T ∧ (sj_cn S = sj_cn T → sj_tm L T ≤ sj_tm L S)
theorem sj_ok_cg {L D : Nat → Nat} {P G S T : Nat → Bool} (h : ∀ i, i < 11 → (S i = true ↔ T i = true)) : sj_ok L D P G S → sj_ok L D P G T :=
  fun z => ⟨(sj_gd_cg h).mp z.1, fun i hi q => (h i hi).mp (z.2 i hi q)⟩
theorem sj_ok_PG {L D : Nat → Nat} {P G P' G' S : Nat → Bool} (hP : sj_sub P P') (hG : sj_sub G' G) : sj_ok L D P G S → sj_ok L D P' G' S :=
  fun z => ⟨⟨fun i hi q => hP i hi (z.1.1 i hi q), z.1.2⟩, fun i hi q => z.2 i hi (hG i hi q)⟩
theorem sj_ok_LD {L D L' D' : Nat → Nat} {P G S : Nat → Bool} (h : ∀ i, i < 11 → P i = true → L' i = L i ∧ D' i = D i) : sj_ok L D P G S → sj_ok L' D' P G S :=
  fun z => ⟨⟨z.1.1, sj_fe_LD (fun i hi q => h i hi (z.1.1 i hi q)) z.1.2⟩, z.2⟩
/-! the order of the places -/
def sj_Or (D : Nat → Nat) (P : Nat → Bool) (r : Nat → Nat) (m : Nat) : Prop :=
  (∀ p, p < m → r p < 11) ∧ (∀ p q, p < q → q < m → r p ≠ r q) ∧ (∀ p q, p < q → q < m → D (r p) ≤ D (r q)) ∧ (∀ i, i < 11 → (P i = true ↔ ∃ p, p < m ∧ r p = i))
def sj_insF (r : Nat → Nat) (a i : Nat) : Nat → Nat := fun p => if p < a then r p else if p = a then i else r (p - 1)
def sj_delF (r : Nat → Nat) (a : Nat) : Nat → Nat := fun p => if p < a then r p else r (p + 1)
theorem sj_insF_1 {r : Nat → Nat} {a i p : Nat} (h : p < a) : sj_insF r a i p = r p := if_pos h
theorem sj_insF_2 {r : Nat → Nat} {a i : Nat} : sj_insF r a i a = i := by
  show (if a < a then r a else if a = a then i else r (a - 1)) = i
  rw [if_neg (by omega), if_pos rfl]
theorem sj_insF_3 {r : Nat → Nat} {a i p : Nat} (h : a < p) : sj_insF r a i p = r (p - 1) := by
  show (if p < a then r p else if p = a then i else r (p - 1)) = r (p - 1)
  rw [if_neg (by omega), if_neg (by omega)]
theorem sj_delF_1 {r : Nat → Nat} {a p : Nat} (h : p < a) : sj_delF r a p = r p := if_pos h
theorem sj_delF_2 {r : Nat → Nat} {a p : Nat} (h : a ≤ p) : sj_delF r a p = r (p + 1) := if_neg (by omega)
theorem sj_Or_D {D D' : Nat → Nat} {P : Nat → Bool} {r : Nat → Nat} {m : Nat} (h : sj_Or D P r m)
    (hd : ∀ i j, i < 11 → j < 11 → P i = true → P j = true → D i ≤ D j → D' i ≤ D' j) : sj_Or D' P r m :=
  ⟨h.1, h.2.1, fun p q hpq hq => hd _ _ (h.1 p (by omega)) (h.1 q hq) ((h.2.2.2 _ (h.1 p (by omega))).mpr ⟨p, by omega, rfl⟩) ((h.2.2.2 _ (h.1 q hq)).mpr ⟨q, hq, rfl⟩) (h.2.2.1 p q hpq hq), h.2.2.2⟩
theorem sj_Or_P {D : Nat → Nat} {P P' : Nat → Bool} {r : Nat → Nat} {m : Nat} (h : sj_Or D P r m) (hp : ∀ i, i < 11 → (P' i = true ↔ P i = true)) : sj_Or D P' r m :=
  ⟨h.1, h.2.1, h.2.2.1, fun i hi => (hp i hi).trans (h.2.2.2 i hi)⟩
theorem sj_Or_ins {D : Nat → Nat} {P : Nat → Bool} {r : Nat → Nat} {m a i : Nat} (h : sj_Or D P r m) (hi : i < 11) (hP : ¬ P i = true) (ha : a ≤ m)
    (h1 : 0 < a → D (r (a - 1)) ≤ D i) (h2 : ∀ p, a ≤ p → p < m → D i < D (r p)) : sj_Or D (sj_ins P i) (sj_insF r a i) (m + 1) := by
  obtain ⟨hr, hj, hs, hp⟩ := h
  have hn : ∀ p, p < m → r p ≠ i := fun p hpm e => hP ((hp i hi).mpr ⟨p, hpm, e⟩)
  have hle : ∀ p, p < a → D (r p) ≤ D i := by
    intro p hpa
    have z := h1 (by omega)
    by_cases e : p = a - 1
    · rw [e]; exact z
    · exact Nat.le_trans (hs p (a - 1) (by omega) (by omega)) z
  refine ⟨fun p hpm => ?_, fun p q hpq hq => ?_, fun p q hpq hq => ?_, fun k hk => ?_⟩
  · rcases Nat.lt_trichotomy p a with c | c | c
    · rw [sj_insF_1 c]; exact hr p (by omega)
    · rw [c, sj_insF_2]; exact hi
    · rw [sj_insF_3 c]; exact hr _ (by omega)
  · rcases Nat.lt_trichotomy p a with c | c | c
    · rw [sj_insF_1 c]
      rcases Nat.lt_trichotomy q a with d | d | d
      · rw [sj_insF_1 d]; exact hj p q hpq (by omega)
      · rw [d, sj_insF_2]; exact hn p (by omega)
      · rw [sj_insF_3 d]; exact hj p (q - 1) (by omega) (by omega)
    · subst c
      rw [sj_insF_2, sj_insF_3 hpq]
      exact fun e => hn _ (by omega) e.symm
    · rw [sj_insF_3 c, sj_insF_3 (by omega)]
      exact hj _ _ (by omega) (by omega)
  · rcases Nat.lt_trichotomy p a with c | c | c
    · rw [sj_insF_1 c]
      rcases Nat.lt_trichotomy q a with d | d | d
      · rw [sj_insF_1 d]; exact hs p q hpq (by omega)
      · rw [d, sj_insF_2]; exact hle p c
      · rw [sj_insF_3 d]; exact hs p (q - 1) (by omega) (by omega)
    · subst c
      rw [sj_insF_2, sj_insF_3 hpq]
      exact Nat.le_of_lt (h2 _ (by omega) (by omega))
    · rw [sj_insF_3 c, sj_insF_3 (by omega)]
      exact hs _ _ (by omega) (by omega)
  · rw [sj_insI, hp k hk]
    constructor
    · intro z
      rcases z with ⟨p, hpm, e⟩ | e
      · by_cases c : p < a
        · exact ⟨p, by omega, by rw [sj_insF_1 c]; exact e⟩
        · exact ⟨p + 1, by omega, by rw [sj_insF_3 (by omega), Nat.add_sub_cancel]; exact e⟩
      · exact ⟨a, by omega, by rw [sj_insF_2]; exact e.symm⟩
    · intro ⟨p, hpm, e⟩
      rcases Nat.lt_trichotomy p a with c | c | c
      · rw [sj_insF_1 c] at e; exact Or.inl ⟨p, by omega, e⟩
      · rw [c, sj_insF_2] at e; exact Or.inr e.symm
      · rw [sj_insF_3 c] at e; exact Or.inl ⟨p - 1, by omega, e⟩
theorem sj_Or_del {D : Nat → Nat} {P : Nat → Bool} {r : Nat → Nat} {m a i : Nat} (h : sj_Or D P r (m + 1)) (ha : a ≤ m) (he : r a = i) : sj_Or D (sj_del P i) (sj_delF r a) m := by
  obtain ⟨hr, hj, hs, hp⟩ := h
  refine ⟨fun p hpm => ?_, fun p q hpq hq => ?_, fun p q hpq hq => ?_, fun k hk => ?_⟩
  · by_cases c : p < a
    · rw [sj_delF_1 c]; exact hr p (by omega)
    · rw [sj_delF_2 (by omega)]; exact hr _ (by omega)
  · by_cases c : p < a
    · rw [sj_delF_1 c]
      by_cases d : q < a
      · rw [sj_delF_1 d]; exact hj p q hpq (by omega)
      · rw [sj_delF_2 (by omega)]; exact hj p (q + 1) (by omega) (by omega)
    · rw [sj_delF_2 (by omega), sj_delF_2 (by omega)]
      exact hj _ _ (by omega) (by omega)
  · by_cases c : p < a
    · rw [sj_delF_1 c]
      by_cases d : q < a
      · rw [sj_delF_1 d]; exact hs p q hpq (by omega)
      · rw [sj_delF_2 (by omega)]; exact hs p (q + 1) (by omega) (by omega)
    · rw [sj_delF_2 (by omega), sj_delF_2 (by omega)]
      exact hs _ _ (by omega) (by omega)
  · rw [sj_delI, hp k hk]
    constructor
    · intro ⟨⟨p, hpm, e⟩, hne⟩
      rcases Nat.lt_trichotomy p a with c | c | c
      · exact ⟨p, by omega, by rw [sj_delF_1 c]; exact e⟩
      · exact absurd (by rw [← e, c]; exact he) hne
      · exact ⟨p - 1, by omega, by rw [sj_delF_2 (by omega), show p - 1 + 1 = p by omega]; exact e⟩
    · intro ⟨p, hpm, e⟩
      by_cases c : p < a
      · rw [sj_delF_1 c] at e
        refine ⟨⟨p, by omega, e⟩, fun z => hj p a c (by omega) ?_⟩
        rw [e, he]; exact z
      · rw [sj_delF_2 (by omega)] at e
        refine ⟨⟨p + 1, by omega, e⟩, fun z => hj a (p + 1) (by omega) (by omega) ?_⟩
        rw [e, he]; exact z.symm
/-! prefixes of the order -/
def sj_pre (r : Nat → Nat) : Nat → Nat → Bool
  | 0 => fun _ => false
  | k + 1 => sj_ins (sj_pre r k) (r k)
theorem sj_preI {r : Nat → Nat} {i : Nat} : ∀ {k : Nat}, sj_pre r k i = true ↔ ∃ p, p < k ∧ r p = i := by
  intro k
  induction k with
  | zero => exact ⟨fun z => (by cases z), fun ⟨p, hp, _⟩ => (by omega)⟩
  | succ k ih =>
    show sj_ins (sj_pre r k) (r k) i = true ↔ _
    rw [sj_insI, ih]
    constructor
    · intro z
      rcases z with ⟨p, hp, e⟩ | e
      · exact ⟨p, by omega, e⟩
      · exact ⟨k, by omega, e.symm⟩
    · intro ⟨p, hp, e⟩
      by_cases c : p = k
      · rw [c] at e; exact Or.inr e.symm
      · exact Or.inl ⟨p, by omega, e⟩
end
section
/-! sets as masks -/
theorem sj_bt1 : ∀ i, i < 32 → bt 1 i = decide (i = 0) := by decide +kernel
theorem sj_and1_0 (y : Int32) : (y &&& 1) = 0 ↔ bt y 0 = false := by
  constructor
  · intro h
    have e := congrArg (fun z => bt z 0) h
    try dsimp only at e
    rw [b_and, b_0, sj_bt1 0 (by omega)] at e
    simpa using e
  · intro h
    apply b_ext
    intro i hi
    rw [b_and, b_0, sj_bt1 i hi]
    by_cases e : i = 0
    · rw [e, h]; rfl
    · rw [decide_eq_false e, Bool.and_false]
theorem sj_and1_1 (y : Int32) : (y &&& 1) = 1 ↔ bt y 0 = true := by
  constructor
  · intro h
    have e := congrArg (fun z => bt z 0) h
    try dsimp only at e
    rw [b_and, sj_bt1 0 (by omega)] at e
    simpa using e
  · intro h
    apply b_ext
    intro i hi
    rw [b_and, sj_bt1 i hi]
    by_cases e : i = 0
    · rw [e, h]; rfl
    · rw [decide_eq_false e, Bool.and_false]
theorem sj_sh0 (x : Int32) {i : Nat} (hi : i < 32) : bt (x >>> (nI i &&& 31)) 0 = bt x i := by
  rw [b_sshr i hi x (by omega), if_pos (by omega)]
  rfl
theorem sj_bit0 (x : Int32) {i : Nat} (hi : i < 32) : ((x >>> (nI i &&& 31)) &&& 1) = 0 ↔ bt x i = false := by
  rw [sj_and1_0, sj_sh0 x hi]
theorem sj_bit1 (x : Int32) {i : Nat} (hi : i < 32) : ((x >>> (nI i &&& 31)) &&& 1) = 1 ↔ bt x i = true := by
  rw [sj_and1_1, sj_sh0 x hi]
theorem sj_one {i j : Nat} (hi : i < 32) (hj : j < 32) : bt ((1 : Int32) <<< (nI i &&& 31)) j = decide (j = i) := by
  rw [b_shl i hi 1 hj, sj_bt1 _ (by omega)]
  by_cases e : j = i
  · subst e; simp
  · rw [decide_eq_false e]
    by_cases c : i ≤ j
    · rw [decide_eq_false (show ¬ j - i = 0 by omega), Bool.and_false]
    · rw [decide_eq_false c, Bool.false_and]
theorem sj_set (x : Int32) {i j : Nat} (hi : i < 32) (hj : j < 32) : bt (x ||| ((1 : Int32) <<< (nI i &&& 31))) j = sj_ins (bt x) i j := by
  rw [b_or, sj_one hi hj]
  rfl
theorem sj_clr (x : Int32) {i j : Nat} (hi : i < 32) (hj : j < 32) : bt (x &&& (((1 : Int32) <<< (nI i &&& 31)) ^^^ (-1))) j = sj_del (bt x) i j := by
  rw [b_and, b_xor, sj_one hi hj, b_m1 j hj]
  unfold sj_del
  cases decide (j = i) <;> rfl
theorem sj_btN {s : Nat} (hs : s < 1024) (j : Nat) : bt (nI s) j = s.testBit j := by
  have e : (nI s).toBitVec.toNat = s := pk_tn (by omega)
  show (nI s).toBitVec.getLsbD j = _
  rw [← BitVec.testBit_toNat, e]
theorem sj_ofBt (y : Int32) (h : ∀ j, 10 ≤ j → j < 32 → bt y j = false) : ∃ t : Nat, t < 1024 ∧ y = nI t ∧ ∀ j, t.testBit j = bt y j := by
  have hb : ∀ j, y.toBitVec.toNat.testBit j = bt y j := fun j => BitVec.testBit_toNat _
  refine ⟨y.toBitVec.toNat, ?_, ?_, hb⟩
  · show y.toBitVec.toNat < 2 ^ 10
    apply Nat.lt_pow_two_of_testBit
    intro j hj
    rw [hb]
    by_cases c : j < 32
    · exact h j hj c
    · exact b_big (by omega)
  · apply Int32.toBitVec_inj.mp
    apply BitVec.eq_of_toNat_eq
    exact (pk_tn y.toBitVec.isLt).symm
theorem sj_tbig {s : Nat} (hs : s < 1024) {j : Nat} (hj : 10 ≤ j) : s.testBit j = false :=
  Nat.testBit_lt_two_pow (Nat.lt_of_lt_of_le hs (Nat.pow_le_pow_right (by decide) hj : 2 ^ 10 ≤ 2 ^ j))
theorem sj_clrN {s i : Nat} (hs : s < 1024) (hi : i < 10) (hb : s.testBit i = true) :
    ∃ t : Nat, t < s ∧ nI s &&& (((1 : Int32) <<< (nI i &&& 31)) ^^^ (-1)) = nI t ∧ ∀ j, t.testBit j = sj_del (fun j => s.testBit j) i j := by
  have hbit : ∀ j, j < 32 → bt (nI s &&& (((1 : Int32) <<< (nI i &&& 31)) ^^^ (-1))) j = sj_del (fun j => s.testBit j) i j := by
    intro j hj
    rw [sj_clr _ (by omega) hj]
    unfold sj_del
    rw [sj_btN hs]
  obtain ⟨t, ht, e, hz⟩ := sj_ofBt (nI s &&& (((1 : Int32) <<< (nI i &&& 31)) ^^^ (-1))) (by
    intro j h1 h2
    rw [hbit j h2]
    show (s.testBit j && !decide (j = i)) = false
    rw [sj_tbig hs h1]
    rfl)
  have hall : ∀ j, t.testBit j = sj_del (fun j => s.testBit j) i j := by
    intro j
    by_cases c : j < 32
    · rw [hz, hbit j c]
    · rw [sj_tbig ht (by omega)]
      show false = (s.testBit j && !decide (j = i))
      rw [sj_tbig hs (j := j) (by omega)]
      rfl
  refine ⟨t, ?_, e, hall⟩
  have hle : t ≤ s := by
    have e2 := congrArg (fun z : Int32 => z.toBitVec.toNat) e
    try dsimp only at e2
    rw [Int32.toBitVec_and, BitVec.toNat_and, pk_tn (n := s) (by omega), pk_tn (n := t) (by omega)] at e2
    rw [← e2]
    exact Nat.and_le_left
  have hne : t ≠ s := by
    intro q
    have z := hall i
    rw [q, hb] at z
    unfold sj_del at z
    rw [decide_eq_true rfl, Bool.not_true, Bool.and_false] at z
    cases z
  omega
theorem sj_subN {a : Int32} {s : Nat} (hs : s < 1024) (ha : ∀ j, 10 ≤ j → j < 32 → bt a j = false) : (a &&& (nI s ^^^ (-1))) = 0 ↔ sj_sub (bt a) (fun j => s.testBit j) := by
  constructor
  · intro h i hi hb
    have e := congrArg (fun z => bt z i) h
    try dsimp only at e
    rw [b_and, b_xor, b_0, b_m1 i (by omega), sj_btN hs, hb] at e
    show s.testBit i = true
    revert e
    cases s.testBit i <;> simp
  · intro h
    apply b_ext
    intro i hi
    rw [b_and, b_xor, b_0, b_m1 i hi, sj_btN hs]
    by_cases c : i < 11
    · by_cases e : bt a i = true
      · have z : s.testBit i = true := h i c e
        rw [e, z]; rfl
      · rw [Bool.not_eq_true] at e
        rw [e, Bool.false_and]
    · rw [ha i (by omega) hi, Bool.false_and]
/-- the mask of a set below n -/
def sj_mk (S : Nat → Bool) : Nat → Nat
  | 0 => 0
  | n + 1 => sj_mk S n ||| (if S n = true then 2 ^ n else 0)
theorem sj_mk_bit (S : Nat → Bool) : ∀ n j : Nat, (sj_mk S n).testBit j = (decide (j < n) && S j) := by
  intro n
  induction n with
  | zero => intro j; show Nat.testBit 0 j = _; rw [Nat.zero_testBit]; simp
  | succ n ih =>
    intro j
    show (sj_mk S n ||| (if S n = true then 2 ^ n else 0)).testBit j = _
    rw [Nat.testBit_or, ih]
    by_cases e : j = n
    · subst e
      rw [decide_eq_false (Nat.lt_irrefl j), Bool.false_and, Bool.false_or, decide_eq_true (Nat.lt_succ_self j), Bool.true_and]
      by_cases q : S j = true
      · rw [if_pos q, q, Nat.testBit_two_pow_self]
      · rw [if_neg q, Nat.zero_testBit]
        rw [Bool.not_eq_true] at q
        exact q.symm
    · have hz : (if S n = true then 2 ^ n else 0 : Nat).testBit j = false := by
        by_cases q : S n = true
        · rw [if_pos q, Nat.testBit_two_pow]
          exact decide_eq_false (fun z => e z.symm)
        · rw [if_neg q, Nat.zero_testBit]
      rw [hz, Bool.or_false]
      by_cases c : j < n
      · rw [decide_eq_true c, decide_eq_true (show j < n + 1 by omega)]
      · rw [decide_eq_false c, decide_eq_false (show ¬ j < n + 1 by omega)]
theorem sj_mk_lt (S : Nat → Bool) : sj_mk S 10 < 1024 := by
  show sj_mk S 10 < 2 ^ 10
  apply Nat.lt_pow_two_of_testBit
  intro j hj
  rw [sj_mk_bit, decide_eq_false (by omega), Bool.false_and]
/-! stores into small types -/
theorem sj_b8 : ∀ i, i < 128 → (nI i).toInt8.toInt32 = nI i := by decide +kernel
theorem sj_s16 : ∀ i, i < 256 → (nI i).toInt16.toInt32 = nI i := by decide +kernel
theorem sj_nb {i : Nat} (h : i < 128) : vp_nar .byte (nI i) = nI i := by rw [vp_nar_byte, sj_b8 i h]
theorem sj_nb2 {i : Nat} (h : i < 128) : vp_nar .byte (nI i).toInt8.toInt32 = nI i := by rw [sj_b8 i h, sj_nb h]
theorem sj_ns2 {i : Nat} (h : i < 256) : vp_nar .short (nI i).toInt16.toInt32 = nI i := by rw [vp_nar_short, sj_s16 i h, sj_s16 i h]
theorem sj_n01 {x : Int32} (h : x = 0 ∨ x = 1) : vp_nar .boolean x = x := by
  rcases h with h | h <;> rw [h] <;> rfl
theorem sj_nar {x : Int32} (h : x = 0 ∨ x = 1) : narrow .boolean (.int x) = .int x := by
  rcases h with h | h <;> rw [h] <;> rfl
theorem sj_eq0 {n : Nat} (h : n < 2 ^ 31) : nI n = 0 ↔ n = 0 := by
  rw [← nI_0]; exact nI_eq h (by decide)
theorem sj_le0 {n : Nat} (h : n < 2 ^ 31) : nI n ≤ 0 ↔ n = 0 := by
  rw [← nI_0, nI_leI h (by decide)]; omega
theorem ek_c {c d A B : Prop} (e : c ↔ d) (f : d → A) (g : ¬ d → B) : (c → A) ∧ (¬ c → B) :=
  ⟨fun z => f (e.mp z), fun z => g (fun y => z (e.mpr y))⟩
end
section
/-! X: its small methods -/
def sj_job (a b : Int32) : Prop := ¬ a < 1 ∧ ¬ 50 < a ∧ ¬ b < 0 ∧ ¬ 200 < b
theorem sj_job_nI {a b : Int32} (h : sj_job a b) : ∃ l d : Nat, a = nI l ∧ b = nI d ∧ 1 ≤ l ∧ l ≤ 50 ∧ d ≤ 200 := by
  obtain ⟨h1, h2, h3, h4⟩ := h
  have a0 : ¬ a < 0 := by
    intro z
    apply h1
    rw [Int32.lt_iff_toInt_lt] at z ⊢
    have e0 : (0 : Int32).toInt = 0 := by decide
    have e1 : (1 : Int32).toInt = 1 := by decide
    omega
  obtain ⟨l, hl, rfl⟩ := nI_of a0
  obtain ⟨d, hd, rfl⟩ := nI_of h3
  refine ⟨l, d, rfl, rfl, ?_, ?_, ?_⟩
  · apply Classical.byContradiction
    intro z
    exact h1 (nI_lt (b := 1) (by omega) (by decide))
  · apply Classical.byContradiction
    intro z
    exact h2 (nI_lt (a := 50) (by omega) hl)
  · apply Classical.byContradiction
    intro z
    exact h4 (nI_lt (a := 200) (by omega) hd)
theorem sj_xJob {post : Int32 → Prop} {u : SX} {a b : Int32} (K1 : sj_job a b → post 1) (K0 : ¬ sj_job a b → post 0) : wpX_isJob post u a b := by
  obtain ⟨_, _, _, _, _, _, _, _, _⟩ := u
  exact br_c (fun h => K0 fun z => z.1 h) (fun h1 => br_c (fun h => K0 fun z => z.2.1 h) (fun h2 => br_c (fun h => K0 fun z => z.2.2.1 h) (fun h3 => br_c (fun h => K0 fun z => z.2.2.2 h) (fun h4 => K1 ⟨h1, h2, h3, h4⟩))))
def sj_pl (L : Nat → Nat) (x : Int32) : Prop := ∃ j : Nat, j < 10 ∧ x = nI j ∧ L j ≠ 0
section
variable {jc rk ad ac tt : Int32} {al dl fm ra : Nat → Int32} {L D r : Nat → Nat} {P : Nat → Bool}
theorem sj_xPlace {post : Int32 → Prop} {x : Int32} (hal : ∀ i, i < 11 → al i = nI (L i) ∧ L i ≤ 50) (K1 : sj_pl L x → post 1) (K0 : ¬ sj_pl L x → post 0) :
    wpX_isPlace post (jc, rk, ad, ac, tt, al, dl, fm, ra) x := by
  by_cases h : x < 0
  · refine br_t h (K0 ?_)
    rintro ⟨j, hj, e, _⟩
    rw [e] at h
    exact nI_pos (by omega) h
  · obtain ⟨j, hj, rfl⟩ := nI_of h
    by_cases c : j < 10
    · refine br_f h (br_f (nI_nlt (a := 9) (by omega) (by decide)) ⟨vp_in_nI (by omega) (by decide), ?_⟩)
      rw [nI_clamp hj, (hal j (by omega)).1]
      have hL := (hal j (by omega)).2
      refine ek_c (sj_eq0 (by omega)) (fun z => K0 ?_) (fun z => K1 ⟨j, c, rfl, z⟩)
      rintro ⟨i, hi, e, q⟩
      have := (nI_eq (by omega) (by omega)).mp e
      subst this
      exact q z
    · refine br_f h (br_t (nI_lt (a := 9) (by omega) hj) (K0 ?_))
      rintro ⟨i, hi, e, _⟩
      have := (nI_eq (by omega) (by omega)).mp e
      omega
end
section
variable {post : SX → Prop} {jc ad ac tt : Int32} {al dl fm : Nat → Int32} {D r : Nat → Nat} {m i : Nat}
theorem sj_xins5 (hm : m ≤ 10) (hi : i < 11) (hr : ∀ p, p < m → r p < 11) (hd : ∀ p, p < m → dl (r p) = nI (D (r p)) ∧ D (r p) ≤ 200) (hdi : dl i = nI (D i)) (hDi : D i ≤ 200)
    (K : ∀ (a : Nat) (ra' : Nat → Int32), a ≤ m → (∀ p, p < m + 1 → ra' p = nI (sj_insF r a i p)) → (0 < a → D (r (a - 1)) ≤ D i) → (∀ p, a ≤ p → p < m → D i < D (r p)) → post (jc, nI (m + 1), ad, ac, tt, al, dl, fm, ra')) :
    ∀ (n a : Nat) (ra : Nat → Int32), a < n → a ≤ m → (∀ p, p < a → ra p = nI (r p)) → (∀ p, a < p → p ≤ m → ra p = nI (r (p - 1))) → (∀ p, a ≤ p → p < m → D i < D (r p)) →
      wX_insert_5 post (nI i) jc (nI m) ad ac tt n (nI a) al dl fm ra := by
  intro n
  induction n with
  | zero => intro a ra h; omega
  | succ n ih =>
    intro a ra hn ham h1 h2 h3
    have ex : (0 < a → D (r (a - 1)) ≤ D i) → wX_insert_51 post (nI i) (nI a) jc (nI m) ad ac tt al dl fm ra := by
      intro h4
      refine ⟨vp_in_nI (by omega) (by decide), nm_r (e' := upd ra a (nI i)) (by rw [nI_clamp (by omega), sj_nb2 (by omega)]) (nm_r (nI_1 m) (K a _ ham ?_ h4 h3))⟩
      intro p hp
      rcases Nat.lt_trichotomy p a with h | h | h
      · rw [pk_un (by omega), sj_insF_1 h, h1 p h]
      · subst h; rw [pk_us, sj_insF_2]
      · rw [pk_un (by omega), sj_insF_3 h, h2 p h (by omega)]
    rcases Nat.eq_zero_or_pos a with h0 | h0
    · subst h0
      exact br_t (nI_le (a := 0) (b := 0) (by omega) (by decide)) (ex (fun h => absurd h (by omega)))
    · obtain ⟨b, rfl⟩ : ∃ b, a = b + 1 := ⟨a - 1, by omega⟩
      have hb := h1 b (by omega)
      have hrb := hr b (by omega)
      obtain ⟨hdb, hDb⟩ := hd b (by omega)
      refine br_f (nI_nle (by omega) (by omega)) ?_
      rw [nI_pred b, nI_clamp (n := b) (by omega), hb, nI_clamp (n := r b) (by omega), nI_clamp (n := i) (by omega), nI_clamp (n := b + 1) (by omega), hdb, hdi, sj_nb (by omega)]
      refine ⟨vp_in_nI (by omega) (by decide), vp_in_nI hrb (by decide), vp_in_nI hi (by decide), pk_le (D (r b)) (D i) (fun h => ex (fun _ => h)) (fun h => ?_)⟩
      refine ⟨vp_in_nI (by omega) (by decide), vp_in_nI (by omega) (by decide), nm_e (nm_r (pk_m1 b) (ih b _ (by omega) (by omega) ?_ ?_ ?_))⟩
      · intro p hp
        rw [pk_un (by omega)]; exact h1 p (by omega)
      · intro p hp hpm
        by_cases c : p = b + 1
        · subst c; rw [pk_us, Nat.add_sub_cancel]
        · rw [pk_un c]; exact h2 p (by omega) hpm
      · intro p hp hpm
        by_cases c : p = b
        · subst c; exact h
        · exact h3 p (by omega) hpm
theorem sj_xins {ra : Nat → Int32} (hm : m ≤ 10) (hi : i < 11) (hr : ∀ p, p < m → r p < 11) (hd : ∀ p, p < m → dl (r p) = nI (D (r p)) ∧ D (r p) ≤ 200) (hdi : dl i = nI (D i)) (hDi : D i ≤ 200)
    (hra : ∀ p, p < m → ra p = nI (r p))
    (K : ∀ (a : Nat) (ra' : Nat → Int32), a ≤ m → (∀ p, p < m + 1 → ra' p = nI (sj_insF r a i p)) → (0 < a → D (r (a - 1)) ≤ D i) → (∀ p, a ≤ p → p < m → D i < D (r p)) → post (jc, nI (m + 1), ad, ac, tt, al, dl, fm, ra')) :
    wpX_insert post (jc, nI m, ad, ac, tt, al, dl, fm, ra) (nI i) :=
  ⟨m + 1, sj_xins5 hm hi hr hd hdi hDi K (m + 1) m ra (by omega) (Nat.le_refl _) hra (fun p h1 h2 => by omega) (fun p h1 h2 => by omega)⟩
end
section
variable {post : SX → Prop} {jc ad ac tt : Int32} {al dl fm : Nat → Int32} {r : Nat → Nat} {M j : Nat}
theorem sj_wd38 {a0 : Nat} (hM : M ≤ 10) (hr : ∀ p, p < M + 1 → r p < 11)
    (K : ∀ ra' : Nat → Int32, (∀ p, p < M → ra' p = nI (sj_delF r a0 p)) → post (jc, nI M, ad, ac, tt, al, dl, fm, ra')) :
    ∀ (n a : Nat) (ra : Nat → Int32), M - a < n → a0 ≤ a → a ≤ M → (∀ p, p < a → ra p = nI (sj_delF r a0 p)) → (∀ p, a < p → p < M + 1 → ra p = nI (r p)) →
      wX_withdraw_38 post jc (nI M) ad ac tt n (nI a) al dl fm ra := by
  intro n
  induction n with
  | zero => intro a ra h; omega
  | succ n ih =>
    intro a ra hn h0 ha h1 h2
    refine pk_le M a (fun h => ?_) (fun h => ?_)
    · have e : a = M := by omega
      subst e
      exact K ra h1
    · have hra := h2 (a + 1) (by omega) (by omega)
      have hlt := hr (a + 1) (by omega)
      rw [nI_1 a, nI_clamp (n := a + 1) (by omega), nI_clamp (n := a) (by omega), hra, sj_nb (by omega)]
      refine ⟨vp_in_nI (by omega) (by decide), vp_in_nI (by omega) (by decide), nm_e (nm_e (ih (a + 1) _ (by omega) (by omega) (by omega) ?_ ?_))⟩
      · intro p hp
        by_cases c : p = a
        · subst c; rw [pk_us, sj_delF_2 h0]
        · rw [pk_un c]; exact h1 p (by omega)
      · intro p hp hpm
        rw [pk_un (by omega)]; exact h2 p (by omega) hpm
theorem sj_wd2 {ra : Nat → Int32} (hM : M ≤ 10) (hj : j < 11) (hr : ∀ p, p < M + 1 → r p < 11) (hra : ∀ p, p < M + 1 → ra p = nI (r p)) (hex : ∃ a, a ≤ M ∧ r a = j)
    (K : ∀ (a : Nat) (ra' : Nat → Int32), a ≤ M → r a = j → (∀ p, p < M → ra' p = nI (sj_delF r a p)) → post (jc, nI M, ad, ac, tt, al, dl, fm, ra')) :
    ∀ n a : Nat, M - a < n → a ≤ M → (∀ p, p < a → r p ≠ j) → wX_withdraw_2 post (nI j) jc (nI (M + 1)) ad ac tt al dl fm ra n (nI a) := by
  intro n
  induction n with
  | zero => intro a h; omega
  | succ n ih =>
    intro a hn ha h1
    have go : r a = j → ∃ n38 : Nat, wX_withdraw_38 post jc (nI M) ad ac tt n38 (nI a) al dl fm ra := fun e =>
      ⟨M - a + 1, sj_wd38 hM hr (fun ra' h => K a ra' ha e h) (M - a + 1) a ra (by omega) (Nat.le_refl _) ha (fun p hp => by rw [sj_delF_1 hp]; exact hra p (by omega)) (fun p _ hp => hra p hp)⟩
    show (_ → _) ∧ (_ → _)
    rw [nI_pred M]
    refine pk_le M a (fun h => ?_) (fun h => ?_)
    · have e : a = M := by omega
      subst e
      obtain ⟨b, hb, e⟩ := hex
      have e2 : b = a := by
        apply Classical.byContradiction
        intro z
        exact h1 b (by omega) e
      subst e2
      exact nm_e (go e)
    · have hrl := hr a (by omega)
      rw [nI_clamp (n := a) (by omega), hra a (by omega)]
      refine ⟨vp_in_nI (by omega) (by decide), pk_eq (r a) j (fun e => nm_e (go e)) (fun e => nm_r (nI_1 a) (ih (a + 1) (by omega) (by omega) ?_))⟩
      intro p hp
      by_cases c : p = a
      · rw [c]; exact e
      · exact h1 p (by omega)
theorem sj_xwd {ra : Nat → Int32} (hM : M ≤ 10) (hj : j < 11) (hr : ∀ p, p < M + 1 → r p < 11) (hra : ∀ p, p < M + 1 → ra p = nI (r p)) (hex : ∃ a, a ≤ M ∧ r a = j)
    (K : ∀ (a : Nat) (ra' : Nat → Int32), a ≤ M → r a = j → (∀ p, p < M → ra' p = nI (sj_delF r a p)) → post (jc, nI M, ad, ac, tt, al, dl, fm, ra')) :
    wpX_withdraw post (jc, nI (M + 1), ad, ac, tt, al, dl, fm, ra) (nI j) :=
  ⟨M + 1, sj_wd2 hM hj hr hra hex K (M + 1) 0 (by omega) (Nat.zero_le _) (fun p hp => by omega)⟩
end
section
variable {post : Int32 → SX → Prop} {ad ac tt : Int32} {al dl fm ra : Nat → Int32} {L r : Nat → Nat} {M j : Nat}
/-- drop of a place that holds a job -/
theorem sj_xdrop (hM : M ≤ 10) (hj : j < 10) (hal : ∀ i, i < 11 → al i = nI (L i) ∧ L i ≤ 50) (hL : L j ≠ 0) (hr : ∀ p, p < M + 1 → r p < 11) (hra : ∀ p, p < M + 1 → ra p = nI (r p)) (hex : ∃ a, a ≤ M ∧ r a = j)
    (K : ∀ (a : Nat) (ra' : Nat → Int32), a ≤ M → r a = j → (∀ p, p < M → ra' p = nI (sj_delF r a p)) → post (nI M) (nI M, nI M, ad, ac, tt, upd al j 0, dl, fm, ra')) :
    wpX_drop post (nI (M + 1), nI (M + 1), ad, ac, tt, al, dl, fm, ra) (nI j) := by
  unfold wpX_drop
  dsimp only
  refine sj_xPlace hal (fun _ => br_f (by decide) ⟨vp_in_nI (by omega) (by decide), nm_r (e' := upd al j 0) (by rw [nI_clamp (by omega), show (0 : Int32) = nI 0 from rfl, sj_nb (by omega)]) (nm_r (nI_pred M) ?_)⟩) (fun z => absurd ⟨j, hj, rfl, hL⟩ z)
  exact sj_xwd hM (by omega) hr hra hex K
/-- drop of another number -/
theorem sj_xdrop0 {jc rk : Int32} {x : Int32} (hal : ∀ i, i < 11 → al i = nI (L i) ∧ L i ≤ 50) (hx : ¬ sj_pl L x) (K : post (-1) (jc, rk, ad, ac, tt, al, dl, fm, ra)) :
    wpX_drop post (jc, rk, ad, ac, tt, al, dl, fm, ra) x := by
  unfold wpX_drop
  dsimp only
  exact sj_xPlace hal (fun z => absurd z hx) (fun _ => br_t rfl K)
theorem sj_xfind {jc rk x1 x2 x3 : Int32} (hj : j < 10) (hal : ∀ i, i < 11 → al i = nI (L i) ∧ L i ≤ 50) (h0 : L j = 0) (h1 : ∀ i, i < j → L i ≠ 0)
    (K : wX_put_49 post x1 x2 x3 (nI j) jc rk ad ac tt al dl fm ra) : ∀ n i : Nat, j - i < n → i ≤ j → wX_put_26 post x1 x2 x3 jc rk ad ac tt al dl fm ra n (nI i) := by
  intro n
  induction n with
  | zero => intro i h; omega
  | succ n ih =>
    intro i hn hi
    refine pk_le 9 i (fun h => ?_) (fun h => ?_)
    · have e : i = j := by omega
      rw [e]; exact K
    · have hi50 := (hal i (by omega)).2
      rw [nI_clamp (n := i) (by omega), (hal i (by omega)).1]
      refine ⟨vp_in_nI (by omega) (by decide), ek_c (sj_eq0 (by omega)) (fun z => ?_) (fun z => ?_)⟩
      · have e : i = j := by
          apply Classical.byContradiction
          intro q
          exact h1 i (by omega) z
        rw [e]; exact K
      · have e : i ≠ j := fun q => z (by rw [q]; exact h0)
        exact nm_r (nI_1 i) (ih (i + 1) (by omega) (by omega))
end
end
section
/-! X: inTime, feasible, giveUpLongest, and the choice -/
def sj_at (S : Nat → Bool) (r : Nat → Nat) (k : Nat) : Nat → Bool := fun i => S i && sj_pre r k i
theorem sj_atI {S : Nat → Bool} {r : Nat → Nat} {k i : Nat} : sj_at S r k i = true ↔ S i = true ∧ sj_pre r k i = true := by simp [sj_at]
theorem sj_at_s {S : Nat → Bool} {r : Nat → Nat} {k : Nat} (h : S (r k) = true) : ∀ i, i < 11 → (sj_at S r (k + 1) i = true ↔ sj_ins (sj_at S r k) (r k) i = true) := by
  intro i _
  rw [sj_insI, sj_atI, sj_atI]
  show S i = true ∧ sj_ins (sj_pre r k) (r k) i = true ↔ _
  rw [sj_insI]
  constructor
  · intro z
    exact z.2.elim (fun q => Or.inl ⟨z.1, q⟩) Or.inr
  · intro z
    rcases z with z | z
    · exact ⟨z.1, Or.inl z.2⟩
    · exact ⟨by rw [z]; exact h, Or.inr z⟩
theorem sj_at_n {S : Nat → Bool} {r : Nat → Nat} {k : Nat} (h : S (r k) = false) : ∀ i, i < 11 → (sj_at S r (k + 1) i = true ↔ sj_at S r k i = true) := by
  intro i _
  rw [sj_atI, sj_atI]
  show S i = true ∧ sj_ins (sj_pre r k) (r k) i = true ↔ _
  rw [sj_insI]
  constructor
  · intro z
    rcases z.2 with q | q
    · exact ⟨z.1, q⟩
    · have := z.1
      rw [q, h] at this
      cases this
  · intro z
    exact ⟨z.1, Or.inl z.2⟩
theorem sj_pre_mono {r : Nat → Nat} {k m i : Nat} (h : k ≤ m) (z : sj_pre r k i = true) : sj_pre r m i = true := by
  obtain ⟨p, hp, e⟩ := sj_preI.mp z
  exact sj_preI.mpr ⟨p, by omega, e⟩
section
variable {jc ad ac tt : Int32} {al dl fm ra : Nat → Int32} {L D r : Nat → Nat} {P : Nat → Bool} {m : Nat}
theorem sj_pre_n (h : sj_Or D P r m) {k : Nat} (hk : k < m) : ¬ sj_pre r k (r k) = true := by
  intro z
  obtain ⟨p, hp, e⟩ := sj_preI.mp z
  exact h.2.1 p k hp hk e
theorem sj_pre_d (h : sj_Or D P r m) {k : Nat} (hk : k < m) : ∀ i, i < 11 → sj_pre r k i = true → D i ≤ D (r k) := by
  intro i _ z
  obtain ⟨p, hp, e⟩ := sj_preI.mp z
  rw [← e]
  exact h.2.2.1 p k hp hk
theorem sj_xin4 {post : Int32 → Prop} {x1 : Int32} (hm : m ≤ 11) (hO : sj_Or D P r m) (hal : ∀ i, i < 11 → al i = nI (L i) ∧ L i ≤ 50)
    (hdl : ∀ p, p < m → dl (r p) = nI (D (r p)) ∧ D (r p) ≤ 200) (hra : ∀ p, p < m → ra p = nI (r p))
    (K1 : sj_fe L D (sj_at (bt x1) r m) → post 1) (K0 : ¬ sj_fe L D (sj_at (bt x1) r m) → post 0) :
    ∀ n k : Nat, m - k < n → k ≤ m → sj_fe L D (sj_at (bt x1) r k) → wX_inTime_4 post x1 jc (nI m) ad ac tt al dl fm ra n (nI (sj_tm L (sj_at (bt x1) r k))) (nI k) := by
  intro n
  induction n with
  | zero => intro k h; omega
  | succ n ih =>
    intro k hn hk hf
    refine pk_le m k (fun h => ?_) (fun h => ?_)
    · have e : k = m := by omega
      subst e
      exact K1 hf
    · have hrk := hO.1 k h
      obtain ⟨hdk, hDk⟩ := hdl k h
      obtain ⟨hak, hLk⟩ := hal (r k) hrk
      have hb := sj_tm_bd (L := L) (S := sj_at (bt x1) r k) (b := 50) (fun i hi => (hal i hi).2)
      refine ⟨vp_in_nI (by omega) (by decide), nm_r (e' := nI (r k)) (by rw [nI_clamp (by omega), hra k h]) ?_⟩
      rw [nI_clamp (n := r k) (by omega), hak, hdk]
      refine ek_c (sj_bit0 x1 (by omega)) (fun z => ?_) (fun z => ?_)
      · have cg := sj_at_n (S := bt x1) z
        have e := sj_tm_cg (L := L) cg
        rw [← e]
        exact nm_r (nI_1 k) (ih (k + 1) (by omega) (by omega) (sj_fe_mono (fun i hi q => (cg i hi).mp q) hf))
      · have z1 : bt x1 (r k) = true := by simpa using z
        have cg := sj_at_s (S := bt x1) (r := r) (k := k) z1
        have hn' : ¬ sj_at (bt x1) r k (r k) = true := fun q => sj_pre_n hO h (sj_atI.mp q).2
        have e := (sj_tm_cg (L := L) cg).trans (sj_tm_ins hrk hn')
        have hmax : ∀ i, i < 11 → sj_at (bt x1) r k i = true → D i ≤ D (r k) := fun i hi q => sj_pre_d hO h i hi (sj_atI.mp q).2
        refine ⟨vp_in_nI hrk (by decide), nm_r (e' := nI (sj_tm L (sj_at (bt x1) r (k + 1)))) (by rw [nI_add, e]) ⟨vp_in_nI hrk (by decide), pk_le (sj_tm L (sj_at (bt x1) r (k + 1))) (D (r k)) (fun c => ?_) (fun c => ?_)⟩⟩
        · refine nm_r (nI_1 k) (ih (k + 1) (by omega) (by omega) ?_)
          refine sj_fe_mono (fun i hi q => (cg i hi).mp q) (sj_fe_ins hmax hf ?_)
          rw [← sj_tm_cg (L := L) cg]; exact c
        · refine K0 fun q => ?_
          have q2 : sj_fe L D (sj_at (bt x1) r (k + 1)) := sj_fe_mono (fun i _ w => sj_atI.mpr ⟨(sj_atI.mp w).1, sj_pre_mono h (sj_atI.mp w).2⟩) q
          have q3 := sj_fe_bd (d := D (r k)) q2 (fun i hi w => by
            rcases sj_insI.mp ((cg i hi).mp w) with v | v
            · exact hmax i hi v
            · rw [v]; exact Nat.le_refl _)
          omega
theorem sj_xinTime {post : Int32 → Prop} {x1 : Int32} (hm : m ≤ 11) (hO : sj_Or D P r m) (hal : ∀ i, i < 11 → al i = nI (L i) ∧ L i ≤ 50)
    (hdl : ∀ p, p < m → dl (r p) = nI (D (r p)) ∧ D (r p) ≤ 200) (hra : ∀ p, p < m → ra p = nI (r p))
    (K1 : sj_fe L D (sj_at (bt x1) r m) → post 1) (K0 : ¬ sj_fe L D (sj_at (bt x1) r m) → post 0) : wpX_inTime post (jc, nI m, ad, ac, tt, al, dl, fm, ra) x1 := by
  have h0 : ∀ i, i < 11 → ¬ sj_at (bt x1) r 0 i = true := fun i _ z => by have := (sj_atI.mp z).2; cases this
  have H := sj_xin4 (jc := jc) (ad := ad) (ac := ac) (tt := tt) (fm := fm) hm hO hal hdl hra K1 K0 (m + 1) 0 (by omega) (by omega) (fun j hj z => absurd z (h0 j hj))
  rw [sj_tm_0 h0] at H
  exact ⟨m + 1, H⟩
theorem sj_xfe15 {post : Int32 → Prop} {s : Nat} (hs : s < 1024) (hm : m ≤ 11) (hO : sj_Or D P r m) (hal : ∀ i, i < 11 → al i = nI (L i) ∧ L i ≤ 50)
    (hdl : ∀ p, p < m → dl (r p) = nI (D (r p)) ∧ D (r p) ≤ 200) (hra : ∀ p, p < m → ra p = nI (r p)) (hP : ∀ i, i < 11 → (P i = true ↔ i < 10 ∧ L i ≠ 0))
    (K1 : sj_gd L D P (fun i => s.testBit i) → post 1) (K0 : ¬ sj_gd L D P (fun i => s.testBit i) → post 0) :
    ∀ n k : Nat, 10 - k < n → k ≤ 10 → (∀ i, i < k → s.testBit i = true → L i ≠ 0) → wX_feasible_15 post (nI s) jc (nI m) ad ac tt al dl fm ra n (nI k) := by
  intro n
  induction n with
  | zero => intro k h; omega
  | succ n ih =>
    intro k hn hk hf
    refine pk_le 10 k (fun h => ?_) (fun h => ?_)
    · have e : k = 10 := by omega
      subst e
      have hsub : sj_sub (fun i => s.testBit i) P := by
        intro i hi z
        have hi10 : i < 10 := by
          apply Classical.byContradiction
          intro c
          have q := sj_tbig hs (show 10 ≤ i by omega)
          have z' : s.testBit i = true := z
          rw [q] at z'
          cases z'
        exact (hP i hi).mpr ⟨hi10, hf i hi10 z⟩
      have cg : ∀ i, i < 11 → (sj_at (bt (nI s)) r m i = true ↔ s.testBit i = true) := by
        intro i hi
        rw [sj_atI, sj_btN hs]
        constructor
        · intro z; exact z.1
        · intro z
          exact ⟨z, sj_preI.mpr ((hO.2.2.2 i hi).mp (hsub i hi z))⟩
      refine sj_xinTime hm hO hal hdl hra (fun z => ⟨rfl, K1 ⟨hsub, sj_fe_mono (fun i hi q => (cg i hi).mpr q) z⟩⟩) (fun z => ⟨rfl, K0 fun q => z (sj_fe_mono (fun i hi w => (cg i hi).mp w) q.2)⟩)
    · refine ek_c (sj_bit0 (nI s) (i := k) (by omega)) (fun z => nm_r (nI_1 k) (ih (k + 1) (by omega) (by omega) ?_)) (fun z => ?_)
      · intro i hi q
        by_cases c : i = k
        · rw [sj_btN hs] at z
          rw [c, z] at q
          cases q
        · exact hf i (by omega) q
      · have z1 : s.testBit k = true := by
          rw [sj_btN hs] at z
          simpa using z
        have hLk := (hal k (by omega)).2
        rw [nI_clamp (n := k) (by omega), (hal k (by omega)).1]
        refine ⟨vp_in_nI (by omega) (by decide), ek_c (sj_eq0 (by omega)) (fun c => K0 fun q => ?_) (fun c => nm_r (nI_1 k) (ih (k + 1) (by omega) (by omega) ?_))⟩
        · exact ((hP k (by omega)).mp (q.1 k (by omega) z1)).2 c
        · intro i hi q
          by_cases c2 : i = k
          · rw [c2]; exact c
          · exact hf i (by omega) q
/-! giveUpLongest -/
theorem sj_m1neg : (-1 : Int32) < 0 := by decide
theorem sj_m1nle : ¬ (0 : Int32) ≤ -1 := by decide
/-- what the search has found below k -/
def sj_lg (L : Nat → Nat) (fm : Nat → Int32) (T : Nat → Bool) (k : Nat) (x : Int32) : Prop :=
  (x = -1 ∧ ∀ i, i < k → T i = true → ¬ fm i = 0) ∨ ∃ l : Nat, x = nI l ∧ l < k ∧ T l = true ∧ fm l = 0 ∧ ∀ i, i < k → T i = true → fm i = 0 → L i ≤ L l
theorem sj_lg_skip {fm : Nat → Int32} {T : Nat → Bool} {k : Nat} {x : Int32} (h : sj_lg L fm T k x) (hk : T k = true → ¬ fm k = 0) : sj_lg L fm T (k + 1) x := by
  rcases h with ⟨e, h⟩ | ⟨l, e, hl, h1, h2, h3⟩
  · refine Or.inl ⟨e, fun i hi z => ?_⟩
    by_cases c : i = k
    · rw [c] at z ⊢; exact hk z
    · exact h i (by omega) z
  · refine Or.inr ⟨l, e, by omega, h1, h2, fun i hi z q => ?_⟩
    by_cases c : i = k
    · rw [c] at z q; exact absurd q (hk z)
    · exact h3 i (by omega) z q
theorem sj_xgu4 {post : Int32 → SX → Prop} {rk : Int32} (hal : ∀ i, i < 11 → al i = nI (L i) ∧ L i ≤ 50)
    (K0 : (∀ i, i < 11 → bt ad i = true → ¬ fm i = 0) → post 0 (jc, rk, ad, ac, tt, al, dl, fm, ra))
    (K1 : ∀ l : Nat, l < 11 → bt ad l = true → fm l = 0 → (∀ i, i < 11 → bt ad i = true → fm i = 0 → L i ≤ L l) →
      post 1 (jc, rk, ad &&& (((1 : Int32) <<< (nI l &&& 31)) ^^^ (-1)), ac - 1, tt - nI (L l), al, dl, fm, ra)) :
    ∀ (n k : Nat) (x : Int32), 11 - k < n → k ≤ 11 → sj_lg L fm (bt ad) k x → wX_giveUpLongest_4 post jc rk ad ac tt al dl fm ra n x (nI k) := by
  intro n
  induction n with
  | zero => intro k x h; omega
  | succ n ih =>
    intro k x hn hk hI
    refine pk_le 11 k (fun h => ?_) (fun h => ?_)
    · have e : k = 11 := by omega
      subst e
      rcases hI with ⟨rfl, hz⟩ | ⟨l, rfl, hl, h1, h2, h3⟩
      · exact br_f sj_m1nle (K0 hz)
      · refine br_t (nI_pos' (by omega)) (nm_e (nm_e ⟨vp_in_nI hl (by decide), ?_⟩))
        rw [nI_clamp (n := l) (by omega), (hal l hl).1]
        exact nm_e (K1 l hl h1 h2 h3)
    · have hk31 : k < 2 ^ 31 := by omega
      obtain ⟨hak, hLk⟩ := hal k h
      rw [nI_clamp hk31, hak]
      refine ek_c (sj_bit0 ad (by omega)) (fun z => ?_) (fun z => ⟨vp_in_nI h (by decide), br_c (fun q => ?_) (fun q => ?_)⟩)
      · exact nm_r (nI_1 k) (ih (k + 1) x (by omega) (by omega) (sj_lg_skip hI (fun w => by rw [z] at w; cases w)))
      · have z1 : bt ad k = true := by simpa using z
        rcases hI with ⟨rfl, hz⟩ | ⟨l, rfl, hl, h1, h2, h3⟩
        · refine br_t sj_m1neg (nm_r (nI_1 k) (ih (k + 1) _ (by omega) (by omega) (Or.inr ⟨k, rfl, by omega, z1, q, fun i hi w v => ?_⟩)))
          by_cases c : i = k
          · rw [c]; exact Nat.le_refl _
          · exact absurd v (hz i (by omega) w)
        · have hl50 := (hal l (by omega)).2
          refine br_f (nI_pos (by omega)) ⟨vp_in_nI h (by decide), vp_in_nI (by omega) (by decide), ?_⟩
          rw [nI_clamp (n := l) (by omega), (hal l (by omega)).1]
          refine pk_le (L k) (L l) (fun c => nm_r (nI_1 k) (ih (k + 1) _ (by omega) (by omega) (Or.inr ⟨l, rfl, by omega, h1, h2, fun i hi w v => ?_⟩)))
            (fun c => nm_r (nI_1 k) (ih (k + 1) _ (by omega) (by omega) (Or.inr ⟨k, rfl, by omega, z1, q, fun i hi w v => ?_⟩)))
          · by_cases e : i = k
            · rw [e]; exact c
            · exact h3 i (by omega) w v
          · by_cases e : i = k
            · rw [e]; exact Nat.le_refl _
            · have := h3 i (by omega) w v
              omega
      · exact nm_r (nI_1 k) (ih (k + 1) x (by omega) (by omega) (sj_lg_skip hI (fun _ => q)))
theorem sj_xgu {post : Int32 → SX → Prop} {rk : Int32} (hal : ∀ i, i < 11 → al i = nI (L i) ∧ L i ≤ 50)
    (K0 : (∀ i, i < 11 → bt ad i = true → ¬ fm i = 0) → post 0 (jc, rk, ad, ac, tt, al, dl, fm, ra))
    (K1 : ∀ l : Nat, l < 11 → bt ad l = true → fm l = 0 → (∀ i, i < 11 → bt ad i = true → fm i = 0 → L i ≤ L l) →
      post 1 (jc, rk, ad &&& (((1 : Int32) <<< (nI l &&& 31)) ^^^ (-1)), ac - 1, tt - nI (L l), al, dl, fm, ra)) :
    wpX_giveUpLongest post (jc, rk, ad, ac, tt, al, dl, fm, ra) :=
  ⟨12, sj_xgu4 hal K0 K1 12 0 (-1) (by omega) (by omega) (Or.inl ⟨rfl, fun i hi => by omega⟩)⟩
/-! the choice by deadline -/
def sj_fs (fm : Nat → Int32) (A : Nat → Bool) : Nat → Bool := fun i => A i && !decide (fm i = 0)
theorem sj_fsI {fm : Nat → Int32} {A : Nat → Bool} {i : Nat} : sj_fs fm A i = true ↔ A i = true ∧ ¬ fm i = 0 := by simp [sj_fs]
/-- within the giving up: the last place x may be late, all before it are in time -/
def sj_iv (L D : Nat → Nat) (fm : Nat → Int32) (A T : Nat → Bool) : Prop := sj_sub T A ∧ sj_sub (sj_fs fm A) T ∧ sj_dm L D A (sj_fs fm A) T
theorem sj_iv_cg {fm : Nat → Int32} {A T T' : Nat → Bool} (h : ∀ i, i < 11 → (T i = true ↔ T' i = true)) (z : sj_iv L D fm A T) : sj_iv L D fm A T' :=
  ⟨fun i hi q => z.1 i hi ((h i hi).mpr q), fun i hi q => (h i hi).mp (z.2.1 i hi q), fun S h1 h2 h3 => by
    obtain ⟨T0, a, b⟩ := z.2.2 S h1 h2 h3
    exact ⟨T0, fun i hi q => (h i hi).mp (a i hi q), b⟩⟩
theorem sj_fe_exit {T : Nat → Bool} {x : Nat} (h : sj_fe L D (sj_del T x)) (ht : sj_tm L T ≤ D x) (hd : ∀ i, i < 11 → T i = true → D i ≤ D x) : sj_fe L D T := by
  by_cases c : T x = true
  · have cg : ∀ i, i < 11 → (sj_ins (sj_del T x) x i = true ↔ T i = true) := by
      intro i _
      rw [sj_insI, sj_delI]
      constructor
      · intro z
        rcases z with z | z
        · exact z.1
        · rw [z]; exact c
      · intro z
        by_cases e : i = x
        · exact Or.inr e
        · exact Or.inl ⟨z, e⟩
    refine sj_fe_mono (fun i hi q => (cg i hi).mpr q) (sj_fe_ins (fun i hi q => hd i hi (sj_delI.mp q).1) h ?_)
    rw [sj_tm_cg cg]; exact ht
  · exact sj_fe_mono (fun i _ q => sj_delI.mpr ⟨q, fun e => c (by rw [← e]; exact q)⟩) h
theorem sj_xad71 {post : Int32 → SX → Prop} {J : Int32 → Int32 → Int32 → Int32 → Int32 → Int32 → (Nat → Int32) → (Nat → Int32) → (Nat → Int32) → (Nat → Int32) → Prop} {A : Nat → Bool} {x k : Nat}
    (hx : x < 11) (hal : ∀ i, i < 11 → al i = nI (L i) ∧ L i ≤ 50) (hdx : dl x = nI (D x)) (hDx : D x ≤ 200) (hd : ∀ i, i < 11 → A i = true → D i ≤ D x)
    (KJ : ∀ ad : Int32, sj_iv L D fm A (bt ad) → sj_fe L D (bt ad) → J (nI (k + 1)) jc (nI m) ad (nI (sj_cn (bt ad))) (nI (sj_tm L (bt ad))) al dl fm ra)
    (K0 : ∀ ad ac tt : Int32, (∀ S, sj_sub S A → sj_fe L D S → sj_sub (sj_fs fm A) S → False) → post 0 (jc, nI m, ad, ac, tt, al, dl, fm, ra)) :
    ∀ (n q : Nat) (ad : Int32), 11 - q < n → sj_cn (bt ad) + q ≤ 11 → sj_iv L D fm A (bt ad) → sj_fe L D (sj_del (bt ad) x) →
      wX_admit_71 post J (nI k) (nI x) n (nI q) jc (nI m) ad (nI (sj_cn (bt ad))) (nI (sj_tm L (bt ad))) al dl fm ra := by
  intro n
  induction n with
  | zero => intro q ad h; omega
  | succ n ih =>
    intro q ad hn hq hI hf
    have hb := sj_tm_bd (L := L) (S := bt ad) (b := 50) (fun i hi => (hal i hi).2)
    have hdT : ∀ i, i < 11 → bt ad i = true → D i ≤ D x := fun i hi z => hd i hi (hI.1 i hi z)
    have out : sj_tm L (bt ad) ≤ D x → ∀ x1 : Int32, x1 = nI k + 1 → J x1 jc (nI m) ad (nI (sj_cn (bt ad))) (nI (sj_tm L (bt ad))) al dl fm ra :=
      fun h => nm_r (nI_1 k) (KJ ad hI (sj_fe_exit hf h hdT))
    refine pk_le 11 q (fun h => ?_) (fun h => ?_)
    · have h0 : sj_cn (bt ad) = 0 := by omega
      have hz : ∀ i, i < 11 → ¬ bt ad i = true := by
        intro i hi z
        have := sj_cn_del hi z
        omega
      exact out (by rw [sj_tm_0 hz]; exact Nat.zero_le _)
    · rw [nI_clamp (n := x) (by omega), hdx]
      refine ⟨vp_in_nI hx (by decide), pk_le (sj_tm L (bt ad)) (D x) out (fun c => ?_)⟩
      refine sj_xgu hal (fun hz => br_t rfl (K0 _ _ _ ?_)) (fun l hl h1 h2 h3 => br_f (by decide) (nm_r (nI_1 q) ?_))
      · exact sj_dm_none hd c (fun i hi z => sj_fsI.mpr ⟨hI.1 i hi z, hz i hi z⟩) hI.2.2
      · have cg : ∀ i, i < 11 → (sj_del (bt ad) l i = true ↔ bt (ad &&& (((1 : Int32) <<< (nI l &&& 31)) ^^^ (-1))) i = true) := by
          intro i hi
          rw [sj_clr ad (by omega) (by omega)]
        have ec := sj_cn_del hl h1
        have et := sj_tm_del (L := L) hl h1
        have c1 := sj_cn_cg cg
        have c2 := sj_tm_cg (L := L) cg
        have hlG : ¬ sj_fs fm A l = true := fun w => (sj_fsI.mp w).2 h2
        have e1 : nI (sj_cn (bt ad)) - 1 = nI (sj_cn (bt (ad &&& (((1 : Int32) <<< (nI l &&& 31)) ^^^ (-1))))) := by
          have : sj_cn (bt ad) = sj_cn (bt (ad &&& (((1 : Int32) <<< (nI l &&& 31)) ^^^ (-1)))) + 1 := by omega
          rw [this, nI_pred]
        have e2 : nI (sj_tm L (bt ad)) - nI (L l) = nI (sj_tm L (bt (ad &&& (((1 : Int32) <<< (nI l &&& 31)) ^^^ (-1))))) := by
          rw [pk_sub (by omega)]
          have : sj_tm L (bt ad) - L l = sj_tm L (bt (ad &&& (((1 : Int32) <<< (nI l &&& 31)) ^^^ (-1)))) := by omega
          rw [this]
        rw [e1, e2]
        refine ih (q + 1) _ (by omega) (by omega) (sj_iv_cg cg ⟨fun i hi w => hI.1 i hi (sj_delI.mp w).1, fun i hi w => sj_delI.mpr ⟨hI.2.1 i hi w, fun e => hlG (by rw [← e]; exact w)⟩, ?_⟩) (sj_fe_mono (fun i hi w => ?_) hf)
        · exact sj_dm_give hl hd c h1 hlG (fun y hy hyT hyG => h3 y hy hyT (Classical.byContradiction fun w => hyG (sj_fsI.mpr ⟨hI.1 y hy hyT, w⟩))) hI.2.2
        · have w1 := sj_delI.mp w
          exact sj_delI.mpr ⟨(sj_delI.mp ((cg i hi).mpr w1.1)).1, w1.2⟩
theorem sj_xad17 {post : Int32 → SX → Prop} (hm : m ≤ 11) (hO : sj_Or D P r m) (hal : ∀ i, i < 11 → al i = nI (L i) ∧ L i ≤ 50)
    (hdl : ∀ p, p < m → dl (r p) = nI (D (r p)) ∧ D (r p) ≤ 200) (hra : ∀ p, p < m → ra p = nI (r p))
    (K1 : ∀ (ad : Int32), sj_best L D P (sj_fs fm P) (bt ad) → post 1 (jc, nI m, ad, nI (sj_cn (bt ad)), nI (sj_tm L (bt ad)), al, dl, fm, ra))
    (K0 : ∀ ad ac tt : Int32, (∀ S, ¬ sj_ok L D P (sj_fs fm P) S) → post 0 (jc, nI m, ad, ac, tt, al, dl, fm, ra)) :
    ∀ (n k : Nat) (ad : Int32), m - k < n → k ≤ m → sj_iv L D fm (sj_pre r k) (bt ad) → sj_fe L D (bt ad) →
      wX_admit_17 post n (nI k) jc (nI m) ad (nI (sj_cn (bt ad))) (nI (sj_tm L (bt ad))) al dl fm ra := by
  intro n
  induction n with
  | zero => intro k ad h; omega
  | succ n ih =>
    intro k ad hn hk hI hf
    have hPp : ∀ i, i < 11 → (P i = true ↔ sj_pre r m i = true) := fun i hi => (hO.2.2.2 i hi).trans sj_preI.symm
    refine pk_le m k (fun h => ?_) (fun h => ?_)
    · have e : k = m := by omega
      subst e
      refine K1 ad ⟨⟨⟨fun i hi z => (hPp i hi).mpr (hI.1 i hi z), hf⟩, fun i hi z => ?_⟩, fun S hS => ?_⟩
      · exact hI.2.1 i hi (sj_fsI.mpr ⟨(hPp i hi).mp (sj_fsI.mp z).1, (sj_fsI.mp z).2⟩)
      · exact sj_dm_fin hI.2.2 S (fun i hi z => (hPp i hi).mp (hS.1.1 i hi z)) hS.1.2 (fun i hi z => hS.2 i hi (sj_fsI.mpr ⟨(hPp i hi).mpr (sj_fsI.mp z).1, (sj_fsI.mp z).2⟩))
    · have hrk := hO.1 k h
      obtain ⟨hdk, hDk⟩ := hdl k h
      obtain ⟨hak, hLk⟩ := hal (r k) hrk
      have hkn := sj_pre_n hO h
      have hTn : ¬ bt ad (r k) = true := fun z => hkn (hI.1 _ hrk z)
      have cg : ∀ i, i < 11 → (sj_ins (bt ad) (r k) i = true ↔ bt (ad ||| ((1 : Int32) <<< (nI (r k) &&& 31))) i = true) := by
        intro i hi
        rw [sj_set ad (by omega) (by omega)]
      have c1 := (sj_cn_cg cg).symm.trans (sj_tm_ins hrk hTn)
      have c2 := (sj_tm_cg (L := L) cg).symm.trans (sj_tm_ins hrk hTn)
      refine ⟨vp_in_nI (by omega) (by decide), nm_r (e' := nI (r k)) (by rw [nI_clamp (by omega), hra k h]) (nm_e (nm_r (e' := nI (sj_cn (bt (ad ||| ((1 : Int32) <<< (nI (r k) &&& 31)))))) (by rw [nI_1]; exact congrArg nI c1.symm) ⟨vp_in_nI hrk (by decide),
        nm_r (e' := nI (sj_tm L (bt (ad ||| ((1 : Int32) <<< (nI (r k) &&& 31)))))) (by rw [nI_clamp (by omega), hak, nI_add]; exact congrArg nI c2.symm) ⟨12, ?_⟩⟩))⟩
      refine sj_xad71 (A := sj_pre r (k + 1)) hrk hal hdk hDk (fun i hi z => ?_) (fun ad' h1 h2 => ih (k + 1) ad' (by omega) (by omega) h1 h2) (fun ad' ac' tt' hz => K0 ad' ac' tt' fun S hS => ?_) 12 0 _ (by omega) ?_ (sj_iv_cg cg ⟨fun i hi z => ?_, fun i hi z => ?_, ?_⟩) ?_
      · rcases sj_insI.mp (show sj_ins (sj_pre r k) (r k) i = true from z) with q | q
        · exact sj_pre_d hO h i hi q
        · rw [q]; exact Nat.le_refl _
      · refine hz (fun i => S i && sj_pre r (k + 1) i) (fun i _ z => ?_) (sj_fe_mono (fun i _ z => ?_) hS.1.2) (fun i hi z => ?_)
        · exact (sj_atI (S := S).mp z).2
        · exact (sj_atI (S := S).mp z).1
        · have z' := sj_fsI.mp z
          exact sj_atI (S := S).mpr ⟨hS.2 i hi (sj_fsI.mpr ⟨(hPp i hi).mpr (sj_pre_mono h z'.1), z'.2⟩), z'.1⟩
      · have := sj_cn_le (bt (ad ||| ((1 : Int32) <<< (nI (r k) &&& 31))))
        omega
      · show sj_ins (sj_pre r k) (r k) i = true
        exact sj_insI.mpr ((sj_insI.mp z).elim (fun q => Or.inl (hI.1 i hi q)) Or.inr)
      · have z' := sj_fsI.mp z
        rcases sj_insI.mp (show sj_ins (sj_pre r k) (r k) i = true from z'.1) with q | q
        · exact sj_insI.mpr (Or.inl (hI.2.1 i hi (sj_fsI.mpr ⟨q, z'.2⟩)))
        · exact sj_insI.mpr (Or.inr q)
      · refine sj_dm_step (G := sj_fs fm (sj_pre r k)) hrk hkn hI.1 (fun i _ z => (sj_fsI.mp z).1) (fun i _ hne => ?_) hI.2.2
        rw [sj_fsI, sj_fsI]
        show sj_ins (sj_pre r k) (r k) i = true ∧ _ ↔ _
        rw [sj_insI]
        constructor
        · intro z
          exact ⟨z.1.elim id (fun q => absurd q hne), z.2⟩
        · intro z
          exact ⟨Or.inl z.1, z.2⟩
      · refine sj_fe_mono (fun i hi z => ?_) hf
        have z' := sj_delI.mp z
        exact (sj_insI.mp ((cg i hi).mpr z'.1)).elim id (fun q => absurd q z'.2)
theorem sj_bt0 (i : Nat) : ¬ bt 0 i = true := by rw [b_0]; exact Bool.false_ne_true
theorem sj_xadmit {post : Int32 → SX → Prop} (hm : m ≤ 11) (hO : sj_Or D P r m) (hal : ∀ i, i < 11 → al i = nI (L i) ∧ L i ≤ 50)
    (hdl : ∀ p, p < m → dl (r p) = nI (D (r p)) ∧ D (r p) ≤ 200) (hra : ∀ p, p < m → ra p = nI (r p))
    (K1 : ∀ (ad : Int32), sj_best L D P (sj_fs fm P) (bt ad) → post 1 (jc, nI m, ad, nI (sj_cn (bt ad)), nI (sj_tm L (bt ad)), al, dl, fm, ra))
    (K0 : ∀ ad ac tt : Int32, (∀ S, ¬ sj_ok L D P (sj_fs fm P) S) → post 0 (jc, nI m, ad, ac, tt, al, dl, fm, ra)) :
    wpX_admit post (jc, nI m, ad, ac, tt, al, dl, fm, ra) := by
  have H := sj_xad17 (fm := fm) hm hO hal hdl hra K1 K0 (m + 1) 0 0 (by omega) (by omega)
    ⟨fun i _ z => absurd z (sj_bt0 i), fun i _ z => (by have := (sj_fsI.mp z).1; cases this), sj_dm_0 (fun i _ z => (by cases z))⟩ (fun j _ z => absurd z (sj_bt0 j))
  rw [sj_tm_0 (fun i _ => sj_bt0 i), show sj_cn (bt 0) = 0 from sj_tm_0 (fun i _ => sj_bt0 i)] at H
  exact ⟨m + 1, H⟩
end
end
section
/-! the reference: its sums and tables -/
def sj_P (L : Nat → Nat) : Nat → Bool := fun i => decide (i < 10 ∧ L i ≠ 0)
theorem sj_PI {L : Nat → Nat} {i : Nat} : sj_P L i = true ↔ i < 10 ∧ L i ≠ 0 := by simp [sj_P]
abbrev sj_ms (s : Nat) : Nat → Bool := fun i => s.testBit i
def sj_YP (L D : Nat → Nat) (bl bd : Nat → Int32) : Prop := (∀ i, i < 10 → bl i = nI (L i) ∧ L i ≤ 50) ∧ (∀ i, i < 10 → L i ≠ 0 → bd i = nI (D i) ∧ D i ≤ 200)
theorem sj_m3le {n : Nat} (h : n < 2 ^ 31) : ¬ nI n ≤ -3 := by
  intro z
  rw [Int32.le_iff_toInt_le, nI_toInt h, show (-3 : Int32).toInt = -3 by decide] at z
  omega
theorem sj_m3eq {n : Nat} (h : n < 2 ^ 31) : ¬ nI n = -3 := fun z => sj_m3le h (by rw [z]; exact Int32.le_refl _)
theorem sj_ms10 {s : Nat} (hs : s < 1024) {i : Nat} (h : sj_ms s i = true) : i < 10 := by
  apply Classical.byContradiction
  intro c
  have q := sj_tbig hs (show 10 ≤ i by omega)
  have z : s.testBit i = true := h
  rw [q] at z
  cases z
theorem sj_mask {S : Nat → Bool} (h : ∀ i, i < 11 → S i = true → i < 10) : ∃ s : Nat, s < 1024 ∧ ∀ i, i < 11 → (S i = true ↔ sj_ms s i = true) := by
  refine ⟨sj_mk S 10, sj_mk_lt S, fun i hi => ?_⟩
  show S i = true ↔ (sj_mk S 10).testBit i = true
  rw [sj_mk_bit, Bool.and_eq_true, decide_eq_true_eq]
  exact ⟨fun z => ⟨h i hi z, z⟩, fun z => z.2⟩
theorem sj_msne {s : Nat} (hs : s < 1024) (h0 : s ≠ 0) : ∃ i, i < 11 ∧ sj_ms s i = true := by
  apply Classical.byContradiction
  intro c
  apply h0
  apply Nat.eq_of_testBit_eq
  intro i
  rw [Nat.zero_testBit]
  by_cases h : i < 10
  · cases e : s.testBit i
    · rfl
    · exact absurd ⟨i, by omega, e⟩ c
  · exact sj_tbig hs (by omega)
theorem sj_yin {post : Int32 → Prop} {u : SY} {s i : Nat} (hs : s < 1024) (hi : i < 10) (K1 : s.testBit i = true → post 1) (K0 : s.testBit i = false → post 0) : wpY_in post u (nI s) (nI i) := by
  obtain ⟨_, _, _, _, _⟩ := u
  refine ek_c (sj_bit1 (nI s) (i := i) (by omega)) (fun z => K1 ?_) (fun z => K0 ?_)
  · rw [← sj_btN hs]; exact z
  · rw [← sj_btN hs]; simpa using z
theorem sj_yfits {post : Int32 → Prop} {u : SY} {a b : Int32} (K1 : sj_job a b → post 1) (K0 : ¬ sj_job a b → post 0) : wpY_fits post u a b := by
  obtain ⟨_, _, _, _, _⟩ := u
  exact br_c (fun h => K0 fun z => z.1 h) (fun h1 => br_c (fun h => K0 fun z => z.2.1 h) (fun h2 => br_c (fun h => K0 fun z => z.2.2.1 h) (fun h3 => br_c (fun h => K0 fun z => z.2.2.2 h) (fun h4 => K1 ⟨h1, h2, h3, h4⟩))))
section
variable {bl bd bf bg bj : Nat → Int32} {L D : Nat → Nat}
theorem sj_yJob {post : Int32 → Prop} {x : Int32} (hbl : ∀ i, i < 10 → bl i = nI (L i) ∧ L i ≤ 50) (K1 : sj_pl L x → post 1) (K0 : ¬ sj_pl L x → post 0) :
    wpY_isJob post (bl, bd, bf, bg, bj) x := by
  by_cases h : x < 0
  · refine br_t h (K0 ?_)
    rintro ⟨j, hj, e, _⟩
    rw [e] at h
    exact nI_pos (by omega) h
  · obtain ⟨j, hj, rfl⟩ := nI_of h
    by_cases c : j < 10
    · refine br_f h (br_f (nI_nlt (a := 9) (by omega) (by decide)) ⟨vp_in_nI (by omega) (by decide), ?_⟩)
      rw [nI_clamp hj, (hbl j (by omega)).1]
      have hL := (hbl j (by omega)).2
      refine ek_c (sj_le0 (by omega)) (fun z => K0 ?_) (fun z => K1 ⟨j, c, rfl, z⟩)
      rintro ⟨i, hi, e, q⟩
      have := (nI_eq (by omega) (by omega)).mp e
      subst this
      exact q z
    · refine br_f h (br_t (nI_lt (a := 9) (by omega) hj) (K0 ?_))
      rintro ⟨i, hi, e, _⟩
      have := (nI_eq (by omega) (by omega)).mp e
      omega
def sj_ct (L : Nat → Nat) (n : Nat) : Nat := sj_sm (fun i => if L i = 0 then 0 else 1) n
theorem sj_yjobs4 {post : Int32 → Prop} (hbl : ∀ i, i < 10 → bl i = nI (L i) ∧ L i ≤ 50) (K : post (nI (sj_ct L 10))) :
    ∀ n k : Nat, 10 - k < n → k ≤ 10 → wY_jobs_4 post bl bd bf bg bj n (nI (sj_ct L k)) (nI k) := by
  intro n
  induction n with
  | zero => intro k h; omega
  | succ n ih =>
    intro k hn hk
    refine pk_le 10 k (fun h => ?_) (fun h => ?_)
    · have e : k = 10 := by omega
      subst e
      exact K
    · have hL := (hbl k h).2
      rw [nI_clamp (n := k) (by omega), (hbl k h).1]
      refine ⟨vp_in_nI h (by decide), ek_c (sj_le0 (by omega)) (fun z => ?_) (fun z => ?_)⟩
      · have e : sj_ct L k = sj_ct L (k + 1) := by
          show _ = sj_ct L k + (if L k = 0 then 0 else 1)
          rw [if_pos z, Nat.add_zero]
        rw [e]
        exact nm_r (nI_1 k) (ih (k + 1) (by omega) (by omega))
      · have e : sj_ct L k + 1 = sj_ct L (k + 1) := by
          show _ = sj_ct L k + (if L k = 0 then 0 else 1)
          rw [if_neg z]
        rw [nI_1 (sj_ct L k), e]
        exact nm_e (nm_r (nI_1 k) (ih (k + 1) (by omega) (by omega)))
theorem sj_yjobs {post : Int32 → Prop} (hbl : ∀ i, i < 10 → bl i = nI (L i) ∧ L i ≤ 50) (K : post (nI (sj_ct L 10))) : wpY_jobs post (bl, bd, bf, bg, bj) :=
  ⟨11, sj_yjobs4 hbl K 11 0 (by omega) (by omega)⟩
theorem sj_tm10 {s : Nat} (hs : s < 1024) : sj_tm L (sj_ms s) = sj_sm (fun i => if sj_ms s i = true then L i else 0) 10 := by
  show sj_sm (fun i => if sj_ms s i = true then L i else 0) 10 + (if sj_ms s 10 = true then L 10 else 0) = _
  rw [if_neg (fun z => absurd (sj_ms10 hs z) (by omega)), Nat.add_zero]
theorem sj_ytime4 {post : Int32 → Prop} {s : Nat} (hs : s < 1024) (hbl : ∀ i, i < 10 → bl i = nI (L i) ∧ L i ≤ 50) (K : post (nI (sj_tm L (sj_ms s)))) :
    ∀ n k : Nat, 10 - k < n → k ≤ 10 → wY_timeOf_4 post (nI s) bl bd bf bg bj n (nI (sj_sm (fun i => if sj_ms s i = true then L i else 0) k)) (nI k) := by
  intro n
  induction n with
  | zero => intro k h; omega
  | succ n ih =>
    intro k hn hk
    refine pk_le 10 k (fun h => ?_) (fun h => ?_)
    · have e : k = 10 := by omega
      subst e
      rw [← sj_tm10 hs]
      exact K
    · have e1 : sj_sm (fun i => if sj_ms s i = true then L i else 0) (k + 1) = sj_sm (fun i => if sj_ms s i = true then L i else 0) k + (if sj_ms s k = true then L k else 0) := rfl
      refine sj_yin hs h (fun z => br_f (by decide) ⟨vp_in_nI h (by decide), nm_r (e' := nI (sj_sm (fun i => if sj_ms s i = true then L i else 0) (k + 1))) ?_ (nm_r (nI_1 k) (ih (k + 1) (by omega) (by omega)))⟩) (fun z => br_t rfl (nm_r (nI_1 k) ?_))
      · rw [nI_clamp (by omega), (hbl k h).1, nI_add, e1, if_pos z]
      · have e2 := ih (k + 1) (by omega) (by omega)
        rw [e1, if_neg (show ¬ sj_ms s k = true by rw [show sj_ms s k = false from z]; exact Bool.false_ne_true), Nat.add_zero] at e2
        exact e2
theorem sj_ytime {post : Int32 → Prop} {s : Nat} (hs : s < 1024) (hbl : ∀ i, i < 10 → bl i = nI (L i) ∧ L i ≤ 50) (K : post (nI (sj_tm L (sj_ms s)))) : wpY_timeOf post (bl, bd, bf, bg, bj) (nI s) :=
  ⟨11, sj_ytime4 hs hbl K 11 0 (by omega) (by omega)⟩
theorem sj_ysize4 {post : Int32 → Prop} {s : Nat} (hs : s < 1024) (K : post (nI (sj_cn (sj_ms s)))) :
    ∀ n k : Nat, 10 - k < n → k ≤ 10 → wY_sizeOf_4 post (nI s) bl bd bf bg bj n (nI (sj_sm (fun i => if sj_ms s i = true then 1 else 0) k)) (nI k) := by
  intro n
  induction n with
  | zero => intro k h; omega
  | succ n ih =>
    intro k hn hk
    refine pk_le 10 k (fun h => ?_) (fun h => ?_)
    · have e : k = 10 := by omega
      subst e
      have e2 := sj_tm10 (L := fun _ => 1) hs
      try dsimp only at e2
      rw [← e2]
      exact K
    · have e1 : sj_sm (fun i => if sj_ms s i = true then 1 else 0) (k + 1) = sj_sm (fun i => if sj_ms s i = true then 1 else 0) k + (if sj_ms s k = true then 1 else 0) := rfl
      refine sj_yin hs h (fun z => br_f (by decide) (nm_r (e' := nI (sj_sm (fun i => if sj_ms s i = true then 1 else 0) (k + 1))) ?_ (nm_r (nI_1 k) (ih (k + 1) (by omega) (by omega))))) (fun z => br_t rfl (nm_r (nI_1 k) ?_))
      · rw [nI_1 (sj_sm (fun i => if sj_ms s i = true then 1 else 0) k), e1, if_pos z]
      · have e2 := ih (k + 1) (by omega) (by omega)
        rw [e1, if_neg (show ¬ sj_ms s k = true by rw [show sj_ms s k = false from z]; exact Bool.false_ne_true), Nat.add_zero] at e2
        exact e2
theorem sj_ysize {post : Int32 → Prop} {s : Nat} (hs : s < 1024) (K : post (nI (sj_cn (sj_ms s)))) : wpY_sizeOf post (bl, bd, bf, bg, bj) (nI s) :=
  ⟨11, sj_ysize4 hs K 11 0 (by omega) (by omega)⟩
/-- a table of sets: 1 where the set is as asked, 0 elsewhere -/
def sj_tab (Q : Nat → Prop) (b : Nat → Int32) (n : Nat) : Prop := ∀ t, t < n → (b t = 1 ∧ Q t) ∨ (b t = 0 ∧ ¬ Q t)
theorem sj_tab_0 {Q : Nat → Prop} {b : Nat → Int32} {n t : Nat} (h : sj_tab Q b n) (ht : t < n) : b t = 0 ↔ ¬ Q t := by
  rcases h t ht with z | z
  · rw [z.1]; exact ⟨fun q => absurd q (by decide), fun q => absurd z.2 q⟩
  · exact ⟨fun _ => z.2, fun _ => z.1⟩
theorem sj_tab_s {Q : Nat → Prop} {b : Nat → Int32} {n : Nat} {x : Int32} (h : sj_tab Q b n) (hx : (x = 1 ∧ Q n) ∨ (x = 0 ∧ ¬ Q n)) : sj_tab Q (upd b n x) (n + 1) := by
  intro t ht
  by_cases c : t = n
  · subst c; rw [pk_us]; exact hx
  · rw [pk_un c]; exact h t (by omega)
/-- the search for a last job -/
def sj_lst (L D : Nat → Nat) (P S : Nat → Bool) (e : Nat) (Q : Nat → Prop) (i : Nat) : Prop := S i = true ∧ P i = true ∧ e ≤ D i ∧ Q i
theorem sj_yhl8 {post : Int32 → Prop} {s e : Nat} {Q : Nat → Prop} {R : Nat → Prop} (hs : s < 1024) (he : e < 1000) (hY : sj_YP L D bl bd) (hg : sj_tab R bg s)
    (hR : ∀ i t : Nat, i < 10 → sj_ms s i = true → t < s → (∀ j, sj_ms t j = sj_del (sj_ms s) i j) → (R t ↔ Q i))
    (K1 : ∀ i : Nat, i < 10 → sj_lst L D (sj_P L) (sj_ms s) e Q i → post 1) (K0 : (∀ i, i < 10 → ¬ sj_lst L D (sj_P L) (sj_ms s) e Q i) → post 0) :
    ∀ n k : Nat, 10 - k < n → k ≤ 10 → (∀ i, i < k → ¬ sj_lst L D (sj_P L) (sj_ms s) e Q i) → wY_hasLast_8 post (nI s) (nI e) bl bd bf bg bj n (nI k) := by
  intro n
  induction n with
  | zero => intro k h; omega
  | succ n ih =>
    intro k hn hk hI
    refine pk_le 10 k (fun h => ?_) (fun h => ?_)
    · have e : k = 10 := by omega
      subst e
      exact K0 hI
    · have nx : ¬ sj_lst L D (sj_P L) (sj_ms s) e Q k → ∀ x : Int32, x = nI k + 1 → wY_hasLast_8 post (nI s) (nI e) bl bd bf bg bj n x := fun hz => nm_r (nI_1 k) (ih (k + 1) (by omega) (by omega) (by
        intro i hi
        by_cases c : i = k
        · rw [c]; exact hz
        · exact hI i (by omega)))
      obtain ⟨hbk, hLk⟩ := hY.1 k h
      refine sj_yin hs h (fun z => br_f (by decide) ⟨vp_in_nI h (by decide), ?_⟩) (fun z => br_t rfl (nx fun q => ?_))
      · rw [nI_clamp (n := k) (by omega), hbk]
        refine ek_c (sj_le0 (by omega)) (fun c => nx fun q => (sj_PI.mp q.2.1).2 c) (fun c => ⟨vp_in_nI h (by decide), ?_⟩)
        obtain ⟨hdk, hDk⟩ := hY.2 k h c
        rw [hdk]
        refine pk_lt (D k) e (fun d => nx fun q => absurd q.2.2.1 (by omega)) (fun d => ?_)
        obtain ⟨t, ht, et, hz⟩ := sj_clrN hs h z
        rw [et, nI_clamp (n := t) (by omega)]
        refine ⟨vp_in_nI (by omega) (by decide), ek_c (sj_tab_0 hg ht) (fun w => nx fun q => w ((hR k t h z ht hz).mpr q.2.2.2)) (fun w => K1 k h ⟨z, sj_PI.mpr ⟨h, c⟩, d, (hR k t h z ht hz).mp (Classical.byContradiction w)⟩)⟩
      · have z2 : sj_ms s k = true := q.1
        have z3 : s.testBit k = true := z2
        rw [z] at z3
        cases z3
theorem sj_yhl29 {post : Int32 → Prop} {s e : Nat} {Q : Nat → Prop} {R : Nat → Prop} (hs : s < 1024) (he : e < 1000) (hY : sj_YP L D bl bd) (hg : sj_tab R bj s)
    (hR : ∀ i t : Nat, i < 10 → sj_ms s i = true → t < s → (∀ j, sj_ms t j = sj_del (sj_ms s) i j) → (R t ↔ Q i))
    (K1 : ∀ i : Nat, i < 10 → sj_lst L D (sj_P L) (sj_ms s) e Q i → post 1) (K0 : (∀ i, i < 10 → ¬ sj_lst L D (sj_P L) (sj_ms s) e Q i) → post 0) :
    ∀ n k : Nat, 10 - k < n → k ≤ 10 → (∀ i, i < k → ¬ sj_lst L D (sj_P L) (sj_ms s) e Q i) → wY_hasLastWith_29 post (nI s) (nI e) bl bd bf bg bj n (nI k) := by
  intro n
  induction n with
  | zero => intro k h; omega
  | succ n ih =>
    intro k hn hk hI
    refine pk_le 10 k (fun h => ?_) (fun h => ?_)
    · have e : k = 10 := by omega
      subst e
      exact K0 hI
    · have nx : ¬ sj_lst L D (sj_P L) (sj_ms s) e Q k → ∀ x : Int32, x = nI k + 1 → wY_hasLastWith_29 post (nI s) (nI e) bl bd bf bg bj n x := fun hz => nm_r (nI_1 k) (ih (k + 1) (by omega) (by omega) (by
        intro i hi
        by_cases c : i = k
        · rw [c]; exact hz
        · exact hI i (by omega)))
      obtain ⟨hbk, hLk⟩ := hY.1 k h
      refine sj_yin hs h (fun z => br_f (by decide) ⟨vp_in_nI h (by decide), ?_⟩) (fun z => br_t rfl (nx fun q => ?_))
      · rw [nI_clamp (n := k) (by omega), hbk]
        refine ek_c (sj_le0 (by omega)) (fun c => nx fun q => (sj_PI.mp q.2.1).2 c) (fun c => ⟨vp_in_nI h (by decide), ?_⟩)
        obtain ⟨hdk, hDk⟩ := hY.2 k h c
        rw [hdk]
        refine pk_lt (D k) e (fun d => nx fun q => absurd q.2.2.1 (by omega)) (fun d => ?_)
        obtain ⟨t, ht, et, hz⟩ := sj_clrN hs h z
        rw [et, nI_clamp (n := t) (by omega)]
        refine ⟨vp_in_nI (by omega) (by decide), ek_c (sj_tab_0 hg ht) (fun w => nx fun q => w ((hR k t h z ht hz).mpr q.2.2.2)) (fun w => K1 k h ⟨z, sj_PI.mpr ⟨h, c⟩, d, (hR k t h z ht hz).mp (Classical.byContradiction w)⟩)⟩
      · have z2 : sj_ms s k = true := q.1
        have z3 : s.testBit k = true := z2
        rw [z] at z3
        cases z3
/-- hasLast: the set is good -/
abbrev sj_Q (L D : Nat → Nat) (t : Nat) : Prop := sj_gd L D (sj_P L) (sj_ms t)
theorem sj_tmle {s : Nat} (hs : s < 1024) (hbl : ∀ i, i < 10 → bl i = nI (L i) ∧ L i ≤ 50) : sj_tm L (sj_ms s) ≤ 550 := by
  have e : sj_tm L (sj_ms s) = sj_tm (fun i => if i < 10 then L i else 0) (sj_ms s) := sj_tm_L (fun i _ z => by
    show L i = if i < 10 then L i else 0
    rw [if_pos (sj_ms10 hs z)])
  rw [e]
  exact sj_tm_bd (b := 50) (fun i _ => by
    show (if i < 10 then L i else 0) ≤ 50
    by_cases c : i < 10
    · rw [if_pos c]; exact (hbl i c).2
    · rw [if_neg c]; omega)
theorem sj_yhl {post : Int32 → Prop} {s : Nat} (hs : s < 1024) (h0 : s ≠ 0) (hY : sj_YP L D bl bd) (hg : sj_tab (sj_Q L D) bg s)
    (K1 : sj_Q L D s → post 1) (K0 : ¬ sj_Q L D s → post 0) : wpY_hasLast post (bl, bd, bf, bg, bj) (nI s) := by
  have hb := sj_tmle hs hY.1
  have hrec := sj_rec (L := L) (D := D) (P := sj_P L) (sj_msne hs h0)
  unfold wpY_hasLast
  dsimp only
  refine sj_ytime hs hY.1 ⟨11, sj_yhl8 (Q := fun i => sj_gd L D (sj_P L) (sj_del (sj_ms s) i)) hs (by omega) hY hg (fun i t _ _ _ hz => ?_) (fun i hi q => K1 (hrec.mpr ⟨i, by omega, q⟩)) (fun hz => K0 fun q => ?_) 11 0 (by omega) (by omega) (fun i hi => by omega)⟩
  · exact sj_gd_cg (fun j _ => by rw [hz j])
  · obtain ⟨i, hi, w⟩ := hrec.mp q
    exact hz i (sj_ms10 hs w.1) w
theorem sj_yfg9 {post : SY → Prop} (hY : sj_YP L D bl bd) (K : ∀ bg' : Nat → Int32, sj_tab (sj_Q L D) bg' 1024 → post (bl, bd, bf, bg', bj)) :
    ∀ (n k : Nat) (bg : Nat → Int32), 1024 - k < n → 0 < k → k ≤ 1024 → sj_tab (sj_Q L D) bg k → wY_findGood_9 post n (nI k) bl bd bf bg bj := by
  intro n
  induction n with
  | zero => intro k bg h; omega
  | succ n ih =>
    intro k bg hn h0 hk hI
    refine pk_le 1024 k (fun h => ?_) (fun h => ?_)
    · have e : k = 1024 := by omega
      subst e
      exact K bg hI
    · refine sj_yhl h (by omega) hY hI (fun q => ⟨vp_in_nI h (by decide), nm_r (e' := upd bg k 1) (by rw [nI_clamp (by omega), sj_n01 (Or.inr rfl)]) (nm_r (nI_1 k) (ih (k + 1) _ (by omega) (by omega) (by omega) (sj_tab_s hI (Or.inl ⟨rfl, q⟩))))⟩)
        (fun q => ⟨vp_in_nI h (by decide), nm_r (e' := upd bg k 0) (by rw [nI_clamp (by omega), sj_n01 (Or.inl rfl)]) (nm_r (nI_1 k) (ih (k + 1) _ (by omega) (by omega) (by omega) (sj_tab_s hI (Or.inr ⟨rfl, q⟩))))⟩)
theorem sj_Q0 : sj_Q L D 0 := by
  have h : ∀ i, ¬ sj_ms 0 i = true := fun i z => by
    have z' : Nat.testBit 0 i = true := z
    rw [Nat.zero_testBit] at z'
    cases z'
  exact ⟨fun i _ z => absurd z (h i), fun i _ z => absurd z (h i)⟩
theorem sj_yfg {post : SY → Prop} (hY : sj_YP L D bl bd) (K : ∀ bg' : Nat → Int32, sj_tab (sj_Q L D) bg' 1024 → post (bl, bd, bf, bg', bj)) : wpY_findGood post (bl, bd, bf, bg, bj) := by
  refine nm_r (e' := upd bg 0 1) (by rw [sj_n01 (Or.inr rfl)]) ⟨1024, sj_yfg9 hY K 1024 1 _ (by omega) (by omega) (by omega) ?_⟩
  intro t ht
  have e : t = 0 := by omega
  subst e
  rw [pk_us]
  exact Or.inl ⟨rfl, sj_Q0⟩
/-- the set of the firm jobs -/
theorem sj_yfs4 {post : Int32 → Prop} (hbl : ∀ i, i < 10 → bl i = nI (L i) ∧ L i ≤ 50) (K : ∀ x : Int32, (∀ j, j < 32 → bt x j = sj_fs bf (sj_P L) j) → post x) :
    ∀ (n k : Nat) (x : Int32), 10 - k < n → k ≤ 10 → (∀ j, j < 32 → bt x j = (decide (j < k) && sj_fs bf (sj_P L) j)) → wY_firmSet_4 post bl bd bf bg bj n x (nI k) := by
  intro n
  induction n with
  | zero => intro k x h; omega
  | succ n ih =>
    intro k x hn hk hI
    refine pk_le 10 k (fun h => ?_) (fun h => ?_)
    · have e : k = 10 := by omega
      subst e
      refine K x fun j hj => ?_
      rw [hI j hj]
      by_cases c : j < 10
      · rw [decide_eq_true c, Bool.true_and]
      · rw [decide_eq_false c, Bool.false_and]
        unfold sj_fs sj_P
        rw [decide_eq_false (fun z => c z.1), Bool.false_and]
    · have sk : sj_fs bf (sj_P L) k = false → ∀ y : Int32, y = nI k + 1 → wY_firmSet_4 post bl bd bf bg bj n x y := fun hz => nm_r (nI_1 k) (ih (k + 1) x (by omega) (by omega) (by
        intro j hj
        rw [hI j hj]
        by_cases c : j = k
        · rw [c, hz, Bool.and_false, Bool.and_false]
        · rw [show decide (j < k) = decide (j < k + 1) from decide_eq_decide.mpr (by omega)]))
      have hL := (hbl k h).2
      rw [nI_clamp (n := k) (by omega), (hbl k h).1]
      refine ⟨vp_in_nI h (by decide), ek_c (sj_le0 (by omega)) (fun z => sk ?_) (fun z => ⟨vp_in_nI h (by decide), br_c (fun q => sk ?_) (fun q => nm_e (nm_r (nI_1 k) (ih (k + 1) _ (by omega) (by omega) ?_)))⟩)⟩
      · unfold sj_fs sj_P
        rw [decide_eq_false (fun w => w.2 z), Bool.false_and]
      · unfold sj_fs
        rw [decide_eq_true q, Bool.not_true, Bool.and_false]
      · intro j hj
        rw [sj_set x (by omega) hj]
        unfold sj_ins
        rw [hI j hj]
        by_cases c : j = k
        · have e : sj_fs bf (sj_P L) j = true := by
            rw [c]
            exact sj_fsI.mpr ⟨sj_PI.mpr ⟨h, z⟩, q⟩
          rw [e, decide_eq_true c, decide_eq_true (show j < k + 1 by omega), Bool.or_true]; rfl
        · rw [decide_eq_false c, Bool.or_false, show decide (j < k) = decide (j < k + 1) from decide_eq_decide.mpr (by omega)]
theorem sj_yfs {post : Int32 → Prop} (hbl : ∀ i, i < 10 → bl i = nI (L i) ∧ L i ≤ 50) (K : ∀ x : Int32, (∀ j, j < 32 → bt x j = sj_fs bf (sj_P L) j) → post x) : wpY_firmSet post (bl, bd, bf, bg, bj) :=
  ⟨11, sj_yfs4 hbl K 11 0 0 (by omega) (by omega) (fun j _ => by rw [b_0, decide_eq_false (by omega), Bool.false_and])⟩
end
end
section
/-! the reference: the greatest number, the least time, a welcome job -/
section
variable {bl bd bf bg bj : Nat → Int32} {L D : Nat → Nat}
/-- a mask within the ten places, and the set that it means -/
def sj_mG (x : Int32) (G : Nat → Bool) : Prop := (∀ j, j < 11 → bt x j = G j) ∧ ∀ j, 10 ≤ j → j < 32 → bt x j = false
theorem sj_mG_fs {x : Int32} (h : ∀ j, j < 32 → bt x j = sj_fs bf (sj_P L) j) : sj_mG x (sj_fs bf (sj_P L)) := by
  refine ⟨fun j hj => h j (by omega), fun j hj hj2 => ?_⟩
  rw [h j hj2]
  unfold sj_fs sj_P
  rw [decide_eq_false (fun z => absurd z.1 (by omega)), Bool.false_and]
theorem sj_mG_ins {x : Int32} {G : Nat → Bool} {i : Nat} (hi : i < 10) (h : sj_mG x G) : sj_mG (x ||| ((1 : Int32) <<< (nI i &&& 31))) (sj_ins G i) := by
  refine ⟨fun j hj => ?_, fun j hj hj2 => ?_⟩
  · rw [sj_set x (by omega) (by omega)]
    unfold sj_ins
    rw [h.1 j hj]
  · rw [sj_set x (by omega) hj2]
    unfold sj_ins
    rw [h.2 j hj hj2, decide_eq_false (by omega)]
    rfl
theorem sj_mG_sub {x : Int32} {G : Nat → Bool} (h : sj_mG x G) {s : Nat} (hs : s < 1024) : (x &&& (nI s ^^^ (-1))) = 0 ↔ sj_sub G (sj_ms s) := by
  rw [sj_subN hs h.2]
  exact ⟨fun z i hi q => z i hi (by rw [h.1 i hi]; exact q), fun z i hi q => z i hi (by rw [← h.1 i hi]; exact q)⟩
abbrev sj_O (L D : Nat → Nat) (G : Nat → Bool) (s : Nat) : Prop := sj_ok L D (sj_P L) G (sj_ms s)
theorem sj_ok_mask {G S : Nat → Bool} (h : sj_ok L D (sj_P L) G S) : ∃ s : Nat, s < 1024 ∧ sj_O L D G s ∧ sj_cn (sj_ms s) = sj_cn S ∧ sj_tm L (sj_ms s) = sj_tm L S := by
  obtain ⟨s, hs, cg⟩ := sj_mask (S := S) (fun i hi z => (sj_PI.mp (h.1.1 i hi z)).1)
  exact ⟨s, hs, sj_ok_cg cg h, (sj_tm_cg cg).symm, (sj_tm_cg cg).symm⟩
def sj_mx (L D : Nat → Nat) (P G : Nat → Bool) (c : Int32) : Prop :=
  (c = -3 ∧ ∀ S, ¬ sj_ok L D P G S) ∨ ∃ T, c = nI (sj_cn T) ∧ sj_ok L D P G T ∧ ∀ S, sj_ok L D P G S → sj_cn S ≤ sj_cn T
def sj_mxk (L D : Nat → Nat) (G : Nat → Bool) (k : Nat) (c : Int32) : Prop :=
  (c = -3 ∧ ∀ s, s < k → ¬ sj_O L D G s) ∨ ∃ t, t < k ∧ c = nI (sj_cn (sj_ms t)) ∧ sj_O L D G t ∧ ∀ s, s < k → sj_O L D G s → sj_cn (sj_ms s) ≤ sj_cn (sj_ms t)
theorem sj_mxk_skip {G : Nat → Bool} {k : Nat} {c : Int32} (h : sj_mxk L D G k c) (hk : ¬ sj_O L D G k) : sj_mxk L D G (k + 1) c := by
  rcases h with ⟨e, h⟩ | ⟨t, ht, e, h1, h2⟩
  · refine Or.inl ⟨e, fun s hs z => ?_⟩
    by_cases q : s = k
    · rw [q] at z; exact hk z
    · exact h s (by omega) z
  · refine Or.inr ⟨t, by omega, e, h1, fun s hs z => ?_⟩
    by_cases q : s = k
    · rw [q] at z; exact absurd z hk
    · exact h2 s (by omega) z
theorem sj_mxk_end {G : Nat → Bool} {c : Int32} (h : sj_mxk L D G 1024 c) : sj_mx L D (sj_P L) G c := by
  rcases h with ⟨e, h⟩ | ⟨t, ht, e, h1, h2⟩
  · refine Or.inl ⟨e, fun S z => ?_⟩
    obtain ⟨s, hs, ho, _, _⟩ := sj_ok_mask z
    exact h s hs ho
  · refine Or.inr ⟨sj_ms t, e, h1, fun S z => ?_⟩
    obtain ⟨s, hs, ho, ec, _⟩ := sj_ok_mask z
    have := h2 s hs ho
    omega
theorem sj_ymost9 {post : Int32 → SY → Prop} {x : Int32} {G : Nat → Bool} (hx : sj_mG x G) (hg : sj_tab (sj_Q L D) bg 1024)
    (K : ∀ c : Int32, sj_mx L D (sj_P L) G c → post c (bl, bd, bf, bg, bj)) :
    ∀ (n k : Nat) (c : Int32), 1024 - k < n → k ≤ 1024 → sj_mxk L D G k c → wY_most_9 post x bl bd bf bg bj n c (nI k) := by
  intro n
  induction n with
  | zero => intro k c h; omega
  | succ n ih =>
    intro k c hn hk hI
    refine pk_le 1024 k (fun h => ?_) (fun h => ?_)
    · have e : k = 1024 := by omega
      subst e
      exact K c (sj_mxk_end hI)
    · rw [nI_clamp (n := k) (by omega)]
      have sk : ¬ sj_O L D G k → ∀ y : Int32, y = nI k + 1 → wY_most_9 post x bl bd bf bg bj n c y := fun hz => nm_r (nI_1 k) (ih (k + 1) c (by omega) (by omega) (sj_mxk_skip hI hz))
      refine ⟨vp_in_nI h (by decide), ek_c (sj_tab_0 hg h) (fun z => sk fun q => z q.1) (fun z => ek_c (sj_mG_sub hx h) (fun w => ?_) (fun w => sk fun q => w q.2))⟩
      have hok : sj_O L D G k := ⟨Classical.byContradiction z, w⟩
      have hc := sj_cn_le (sj_ms k)
      refine sj_ysize h ?_
      rcases hI with ⟨rfl, hz⟩ | ⟨t, ht, rfl, h1, h2⟩
      · refine br_f (sj_m3le (by omega)) (nm_r (nI_1 k) (ih (k + 1) _ (by omega) (by omega) (Or.inr ⟨k, by omega, rfl, hok, fun s hs q => ?_⟩)))
        by_cases e : s = k
        · rw [e]; exact Nat.le_refl _
        · exact absurd q (hz s (by omega))
      · have hc2 := sj_cn_le (sj_ms t)
        refine pk_le (sj_cn (sj_ms k)) (sj_cn (sj_ms t)) (fun d => nm_r (nI_1 k) (ih (k + 1) _ (by omega) (by omega) (Or.inr ⟨t, by omega, rfl, h1, fun s hs q => ?_⟩)))
          (fun d => nm_r (nI_1 k) (ih (k + 1) _ (by omega) (by omega) (Or.inr ⟨k, by omega, rfl, hok, fun s hs q => ?_⟩)))
        · by_cases e : s = k
          · rw [e]; exact d
          · exact h2 s (by omega) q
        · by_cases e : s = k
          · rw [e]; exact Nat.le_refl _
          · have := h2 s (by omega) q
            omega
theorem sj_ymost {post : Int32 → SY → Prop} {x : Int32} {G : Nat → Bool} (hx : sj_mG x G) (hY : sj_YP L D bl bd)
    (K : ∀ (c : Int32) (bg' : Nat → Int32), sj_tab (sj_Q L D) bg' 1024 → sj_mx L D (sj_P L) G c → post c (bl, bd, bf, bg', bj)) : wpY_most post (bl, bd, bf, bg, bj) x := by
  unfold wpY_most
  dsimp only
  exact sj_yfg hY (fun bg' hg => ⟨1025, sj_ymost9 hx hg (fun c h => K c bg' hg h) 1025 0 (-3) (by omega) (by omega) (Or.inl ⟨rfl, fun s hs => by omega⟩)⟩)
theorem sj_ymit {post : Int32 → SY → Prop} (hY : sj_YP L D bl bd)
    (K : ∀ (c : Int32) (bg' : Nat → Int32), sj_mx L D (sj_P L) (sj_fs bf (sj_P L)) c → post c (bl, bd, bf, bg', bj)) : wpY_mostInTime post (bl, bd, bf, bg, bj) := by
  unfold wpY_mostInTime
  dsimp only
  exact sj_yfs hY.1 (fun x hx => sj_ymost (sj_mG_fs hx) hY (fun c bg' _ h => K c bg' h))
/-- the least time -/
def sj_lt (L D : Nat → Nat) (P G : Nat → Bool) (c : Int32) : Prop := (c = -3 ∧ ∀ S, ¬ sj_ok L D P G S) ∨ ∃ T, c = nI (sj_tm L T) ∧ sj_best L D P G T
abbrev sj_O2 (L D : Nat → Nat) (G : Nat → Bool) (c : Int32) (s : Nat) : Prop := sj_O L D G s ∧ nI (sj_cn (sj_ms s)) = c
def sj_ltk (L D : Nat → Nat) (G : Nat → Bool) (c : Int32) (k : Nat) (x : Int32) : Prop :=
  (x = -3 ∧ ∀ s, s < k → ¬ sj_O2 L D G c s) ∨ ∃ t, t < k ∧ x = nI (sj_tm L (sj_ms t)) ∧ sj_O2 L D G c t ∧ ∀ s, s < k → sj_O2 L D G c s → sj_tm L (sj_ms t) ≤ sj_tm L (sj_ms s)
theorem sj_ltk_skip {G : Nat → Bool} {k : Nat} {c x : Int32} (h : sj_ltk L D G c k x) (hk : ¬ sj_O2 L D G c k) : sj_ltk L D G c (k + 1) x := by
  rcases h with ⟨e, h⟩ | ⟨t, ht, e, h1, h2⟩
  · refine Or.inl ⟨e, fun s hs z => ?_⟩
    by_cases q : s = k
    · rw [q] at z; exact hk z
    · exact h s (by omega) z
  · refine Or.inr ⟨t, by omega, e, h1, fun s hs z => ?_⟩
    by_cases q : s = k
    · rw [q] at z; exact absurd z hk
    · exact h2 s (by omega) z
theorem sj_ltk_end {G : Nat → Bool} {c x : Int32} (hm : sj_mx L D (sj_P L) G c) (h : sj_ltk L D G c 1024 x) : sj_lt L D (sj_P L) G x := by
  rcases hm with ⟨ec, hz⟩ | ⟨T, ec, hT, hmax⟩
  · rcases h with ⟨e, _⟩ | ⟨t, _, _, h1, _⟩
    · exact Or.inl ⟨e, hz⟩
    · exact absurd h1.1 (hz _)
  · have hc := sj_cn_le T
    rcases h with ⟨_, h⟩ | ⟨t, ht, e, h1, h2⟩
    · obtain ⟨s, hs, ho, es, _⟩ := sj_ok_mask hT
      exact absurd ⟨ho, by rw [es, ec]⟩ (h s hs)
    · have hc2 := sj_cn_le (sj_ms t)
      have et : sj_cn (sj_ms t) = sj_cn T := (nI_eq (by omega) (by omega)).mp (h1.2.trans ec)
      refine Or.inr ⟨sj_ms t, e, h1.1, fun S hS => ⟨by rw [et]; exact hmax S hS, fun q => ?_⟩⟩
      obtain ⟨s, hs, ho, es, es2⟩ := sj_ok_mask hS
      have := h2 s hs ⟨ho, by rw [es, q, et, ec]⟩
      omega
theorem sj_ylt17 {post : Int32 → SY → Prop} {x c : Int32} {G : Nat → Bool} (hx : sj_mG x G) (hbl : ∀ i, i < 10 → bl i = nI (L i) ∧ L i ≤ 50) (hg : sj_tab (sj_Q L D) bg 1024) (hc : sj_mx L D (sj_P L) G c)
    (K : ∀ y : Int32, sj_lt L D (sj_P L) G y → post y (bl, bd, bf, bg, bj)) :
    ∀ (n k : Nat) (y : Int32), 1024 - k < n → k ≤ 1024 → sj_ltk L D G c k y → wY_leastTime_17 post x c bl bd bf bg bj n y (nI k) := by
  intro n
  induction n with
  | zero => intro k y h; omega
  | succ n ih =>
    intro k y hn hk hI
    refine pk_le 1024 k (fun h => ?_) (fun h => ?_)
    · have e : k = 1024 := by omega
      subst e
      exact K y (sj_ltk_end hc hI)
    · rw [nI_clamp (n := k) (by omega)]
      have sk : ¬ sj_O2 L D G c k → ∀ z : Int32, z = nI k + 1 → wY_leastTime_17 post x c bl bd bf bg bj n y z := fun hz => nm_r (nI_1 k) (ih (k + 1) y (by omega) (by omega) (sj_ltk_skip hI hz))
      refine ⟨vp_in_nI h (by decide), ek_c (sj_tab_0 hg h) (fun z => sk fun q => z q.1.1) (fun z => ek_c (sj_mG_sub hx h) (fun w => ?_) (fun w => sk fun q => w q.1.2))⟩
      refine sj_ysize h (br_c (fun v => ?_) (fun v => sk fun q => v q.2))
      have hok : sj_O2 L D G c k := ⟨⟨Classical.byContradiction z, w⟩, v⟩
      have hb := sj_tmle h hbl
      refine sj_ytime h hbl ?_
      rcases hI with ⟨rfl, hz⟩ | ⟨t, ht, rfl, h1, h2⟩
      · refine br_t rfl (nm_r (nI_1 k) (ih (k + 1) _ (by omega) (by omega) (Or.inr ⟨k, by omega, rfl, hok, fun s hs q => ?_⟩)))
        by_cases e : s = k
        · rw [e]; exact Nat.le_refl _
        · exact absurd q (hz s (by omega))
      · have hb2 := sj_tmle (show t < 1024 by omega) hbl
        refine br_f (sj_m3eq (by omega)) (pk_le (sj_tm L (sj_ms t)) (sj_tm L (sj_ms k)) (fun d => nm_r (nI_1 k) (ih (k + 1) _ (by omega) (by omega) (Or.inr ⟨t, by omega, rfl, h1, fun s hs q => ?_⟩)))
          (fun d => nm_r (nI_1 k) (ih (k + 1) _ (by omega) (by omega) (Or.inr ⟨k, by omega, rfl, hok, fun s hs q => ?_⟩))))
        · by_cases e : s = k
          · rw [e]; exact d
          · exact h2 s (by omega) q
        · by_cases e : s = k
          · rw [e]; exact Nat.le_refl _
          · have := h2 s (by omega) q
            omega
theorem sj_ylt {post : Int32 → SY → Prop} (hY : sj_YP L D bl bd)
    (K : ∀ (y : Int32) (bg' : Nat → Int32), sj_lt L D (sj_P L) (sj_fs bf (sj_P L)) y → post y (bl, bd, bf, bg', bj)) : wpY_leastTime post (bl, bd, bf, bg, bj) := by
  unfold wpY_leastTime
  dsimp only
  exact sj_yfs hY.1 (fun x hx => sj_ymost (sj_mG_fs hx) hY (fun c bg' hg hc => ⟨1025, sj_ylt17 (sj_mG_fs hx) hY.1 hg hc (fun y h => K y bg' h) 1025 0 (-3) (by omega) (by omega) (Or.inl ⟨rfl, fun s hs => by omega⟩)⟩))
/-! a welcome job: place 10 -/
abbrev sj_P1 (L : Nat → Nat) : Nat → Bool := sj_ins (sj_P L) 10
abbrev sj_J (L D : Nat → Nat) (t : Nat) : Prop := sj_gd L D (sj_P1 L) (sj_ins (sj_ms t) 10)
theorem sj_ms_n10 {s : Nat} (hs : s < 1024) : ¬ sj_ms s 10 = true := fun z => absurd (sj_ms10 hs z) (by omega)
theorem sj_Jrec {s : Nat} (hs : s < 1024) : sj_J L D s ↔ (sj_Q L D s ∧ sj_tm L (sj_ms s) + L 10 ≤ D 10) ∨ ∃ i, i < 10 ∧ sj_lst L D (sj_P L) (sj_ms s) (sj_tm L (sj_ms s) + L 10) (fun i => sj_gd L D (sj_P1 L) (sj_ins (sj_del (sj_ms s) i) 10)) i := by
  have h10 := sj_ms_n10 hs
  have et := sj_tm_ins (L := L) (by omega) h10
  refine (sj_rec (L := L) (D := D) (P := sj_P1 L) (S := sj_ins (sj_ms s) 10) ⟨10, by omega, sj_insI.mpr (Or.inr rfl)⟩).trans ?_
  constructor
  · intro ⟨i, hi, h1, h2, h3, h4⟩
    by_cases c : i = 10
    · subst c
      refine Or.inl ⟨⟨fun j hj z => ?_, sj_fe_mono (fun j hj z => ?_) h4.2⟩, by omega⟩
      · have hj10 := sj_ms10 hs z
        exact (sj_insI.mp (h4.1 j hj (sj_delI.mpr ⟨sj_insI.mpr (Or.inl z), by omega⟩))).elim id (fun q => by omega)
      · have hj10 := sj_ms10 hs z
        exact sj_delI.mpr ⟨sj_insI.mpr (Or.inl z), by omega⟩
    · refine Or.inr ⟨i, by omega, (sj_insI.mp h1).elim id (fun q => absurd q c), (sj_insI.mp h2).elim id (fun q => absurd q c), by omega, ?_⟩
      refine (sj_gd_cg (fun j hj => ?_)).mp h4
      rw [sj_delI, sj_insI, sj_insI, sj_delI]
      constructor
      · intro z
        exact z.1.elim (fun q => Or.inl ⟨q, z.2⟩) Or.inr
      · intro z
        rcases z with z | z
        · exact ⟨Or.inl z.1, z.2⟩
        · exact ⟨Or.inr z, by omega⟩
  · intro h
    rcases h with ⟨hq, ht⟩ | ⟨i, hi, h1, h2, h3, h4⟩
    · refine ⟨10, by omega, sj_insI.mpr (Or.inr rfl), sj_insI.mpr (Or.inr rfl), by omega, fun j hj z => ?_, sj_fe_mono (fun j hj z => ?_) hq.2⟩
      · have z' := sj_delI.mp z
        exact sj_insI.mpr (Or.inl (hq.1 j hj ((sj_insI.mp z'.1).elim id (fun q => absurd q z'.2))))
      · have z' := sj_delI.mp z
        exact (sj_insI.mp z'.1).elim id (fun q => absurd q z'.2)
    · refine ⟨i, by omega, sj_insI.mpr (Or.inl h1), sj_insI.mpr (Or.inl h2), by omega, (sj_gd_cg (fun j hj => ?_)).mp h4⟩
      rw [sj_delI, sj_insI, sj_insI, sj_delI]
      constructor
      · intro z
        rcases z with z | z
        · exact ⟨Or.inl z.1, z.2⟩
        · exact ⟨Or.inr z, by omega⟩
      · intro z
        exact z.1.elim (fun q => Or.inl ⟨q, z.2⟩) Or.inr
theorem sj_yhlw {post : Int32 → Prop} {s : Nat} (hs : s < 1024) (hY : sj_YP L D bl bd) (hl : L 10 ≤ 50) (hd : D 10 ≤ 200) (hg : sj_tab (sj_Q L D) bg 1024) (hj : sj_tab (sj_J L D) bj s)
    (K1 : sj_J L D s → post 1) (K0 : ¬ sj_J L D s → post 0) : wpY_hasLastWith post (bl, bd, bf, bg, bj) (nI s) (nI (L 10)) (nI (D 10)) := by
  have hb := sj_tmle hs hY.1
  have hrec := sj_Jrec (L := L) (D := D) hs
  have lp : (¬ (sj_Q L D s ∧ sj_tm L (sj_ms s) + L 10 ≤ D 10)) → ∃ n29 : Nat, wY_hasLastWith_29 post (nI s) (nI (sj_tm L (sj_ms s) + L 10)) bl bd bf bg bj n29 0 := fun hn =>
    ⟨11, sj_yhl29 (Q := fun i => sj_gd L D (sj_P1 L) (sj_ins (sj_del (sj_ms s) i) 10)) (R := sj_J L D) hs (by omega) hY hj (fun i t _ _ _ hz => sj_gd_cg (fun j _ => by rw [sj_insI, sj_insI, hz j]))
      (fun i hi q => K1 (hrec.mpr (Or.inr ⟨i, hi, q⟩))) (fun hz => K0 fun q => (hrec.mp q).elim hn (fun ⟨i, hi, w⟩ => hz i hi w)) 11 0 (by omega) (by omega) (fun i hi => by omega)⟩
  unfold wpY_hasLastWith
  dsimp only
  refine sj_ytime hs hY.1 (nm_r (nI_add _ _) ⟨vp_in_nI hs (by decide), ?_⟩)
  rw [nI_clamp (n := s) (by omega)]
  refine ek_c (sj_tab_0 hg hs) (fun z => lp fun q => z q.1) (fun z => pk_lt (D 10) (sj_tm L (sj_ms s) + L 10) (fun c => lp fun q => by omega) (fun c => K1 (hrec.mpr (Or.inl ⟨Classical.byContradiction z, c⟩))))
/-- some set with the new job is good, has all firm ones and more jobs than c -/
abbrev sj_W (L D : Nat → Nat) (G : Nat → Bool) (c s : Nat) : Prop := sj_J L D s ∧ sj_sub G (sj_ms s) ∧ c < sj_cn (sj_ms s) + 1
theorem sj_ywel35 {post : Int32 → SY → Prop} {x : Int32} {c : Nat} {G : Nat → Bool} (hx : sj_mG x G) (hcb : c ≤ 11) (hY : sj_YP L D bl bd) (hl : L 10 ≤ 50) (hd : D 10 ≤ 200) (hg : sj_tab (sj_Q L D) bg 1024)
    (K1 : ∀ (bj' : Nat → Int32) (s : Nat), s < 1024 → sj_W L D G c s → post 1 (bl, bd, bf, bg, bj'))
    (K0 : ∀ bj' : Nat → Int32, (∀ s, s < 1024 → ¬ sj_W L D G c s) → post 0 (bl, bd, bf, bg, bj')) :
    ∀ (n k : Nat) (bj : Nat → Int32), 1024 - k < n → k ≤ 1024 → sj_tab (sj_J L D) bj k → (∀ s, s < k → ¬ sj_W L D G c s) → wY_welcome_35 post (nI (L 10)) (nI (D 10)) x (nI c) n (nI k) bl bd bf bg bj := by
  intro n
  induction n with
  | zero => intro k bj h; omega
  | succ n ih =>
    intro k bj hn hk hj hI
    refine pk_le 1024 k (fun h => ?_) (fun h => ?_)
    · have e : k = 1024 := by omega
      subst e
      exact K0 bj hI
    · have sk : ∀ bj' : Nat → Int32, sj_tab (sj_J L D) bj' (k + 1) → ¬ sj_W L D G c k → ∀ z : Int32, z = nI k + 1 → wY_welcome_35 post (nI (L 10)) (nI (D 10)) x (nI c) n z bl bd bf bg bj' := fun bj' hj' hz => nm_r (nI_1 k) (ih (k + 1) bj' (by omega) (by omega) hj' (by
        intro s hs
        by_cases e : s = k
        · rw [e]; exact hz
        · exact hI s (by omega)))
      have hcn := sj_cn_le (sj_ms k)
      refine sj_yhlw h hY hl hd hg hj (fun q => ⟨vp_in_nI h (by decide), nm_r (e' := upd bj k 1) (by rw [nI_clamp (by omega), sj_n01 (Or.inr rfl)]) ⟨vp_in_nI h (by decide), ?_⟩⟩)
        (fun q => ⟨vp_in_nI h (by decide), nm_r (e' := upd bj k 0) (by rw [nI_clamp (by omega), sj_n01 (Or.inl rfl)]) ⟨vp_in_nI h (by decide), ?_⟩⟩)
      · rw [nI_clamp (n := k) (by omega), pk_us]
        have hj' := sj_tab_s hj (Or.inl ⟨rfl, q⟩)
        refine br_f (by decide) (ek_c (sj_mG_sub hx h) (fun w => sj_ysize h ?_) (fun w => sk _ hj' fun v => w v.2.1))
        rw [nI_1 (sj_cn (sj_ms k))]
        exact pk_le (sj_cn (sj_ms k) + 1) c (fun d => sk _ hj' fun v => absurd v.2.2 (by omega)) (fun d => K1 _ k h ⟨q, w, d⟩)
      · rw [nI_clamp (n := k) (by omega), pk_us]
        exact br_t rfl (sk _ (sj_tab_s hj (Or.inr ⟨rfl, q⟩)) fun v => q v.1)
/-! the first empty place -/
def sj_fst (L : Nat → Nat) (k : Nat) (x : Int32) : Prop := (x = -1 ∧ ∀ i, k ≤ i → i < 10 → L i ≠ 0) ∨ ∃ j : Nat, x = nI j ∧ k ≤ j ∧ j < 10 ∧ L j = 0 ∧ ∀ i, k ≤ i → i < j → L i ≠ 0
theorem sj_yput7 {post : Int32 → SY → Prop} {x1 x2 x3 : Int32} (hbl : ∀ i, i < 10 → bl i = nI (L i) ∧ L i ≤ 50)
    (KF : (∀ i, i < 10 → L i ≠ 0) → post (-2) (bl, bd, bf, bg, bj))
    (K0 : ∀ j : Nat, j < 10 → L j = 0 → ¬ sj_job x1 x2 → post (-1) (bl, bd, bf, bg, bj))
    (K1 : ∀ j : Nat, j < 10 → L j = 0 → (∀ i, i < j → L i ≠ 0) → sj_job x1 x2 → post (nI j) (upd bl j x1, upd bd j x2, upd bf j (vp_nar .boolean x3), bg, bj)) :
    ∀ (n k : Nat) (x : Int32), k < n → k ≤ 10 → sj_fst L k x → wY_put_7 post x1 x2 x3 bl bd bf bg bj n x (nI k + (-1)) := by
  intro n
  induction n with
  | zero => intro k x h; omega
  | succ n ih =>
    intro k x hn hk hI
    rcases Nat.eq_zero_or_pos k with h0 | h0
    · subst h0
      refine br_t (by decide) ?_
      rcases hI with ⟨rfl, hz⟩ | ⟨j, rfl, _, hj, h1, h2⟩
      · exact br_f sj_m1nle (KF fun i hi => hz i (by omega) hi)
      · refine br_t (nI_pos' (by omega)) (sj_yfits (fun q => br_f (by decide) ?_) (fun q => br_t rfl (K0 j hj h1 q)))
        have K := K1 j hj h1 (fun i hi => h2 i (by omega) hi) q
        refine ⟨vp_in_nI hj (by decide), nm_r (e' := upd bl j x1) (by rw [nI_clamp (by omega)]) ⟨vp_in_nI hj (by decide), nm_r (e' := upd bd j x2) (by rw [nI_clamp (by omega)]) ⟨vp_in_nI hj (by decide), nm_r (e' := upd bf j (vp_nar .boolean x3)) (by rw [nI_clamp (by omega)]) K⟩⟩⟩
    · obtain ⟨b, rfl⟩ : ∃ b, k = b + 1 := ⟨k - 1, by omega⟩
      rw [pk_m1 b]
      have hL := (hbl b (by omega)).2
      refine br_f (nI_pos (by omega)) ⟨vp_in_nI (by omega) (by decide), ?_⟩
      rw [nI_clamp (n := b) (by omega), (hbl b (by omega)).1]
      refine ek_c (sj_eq0 (by omega)) (fun z => nm_e (ih b _ (by omega) (by omega) (Or.inr ⟨b, rfl, Nat.le_refl _, by omega, z, fun i h1 h2 => by omega⟩))) (fun z => nm_e (ih b _ (by omega) (by omega) ?_))
      rcases hI with ⟨e, hz⟩ | ⟨j, e, hbj, hj, h1, h2⟩
      · refine Or.inl ⟨e, fun i h1 h2 => ?_⟩
        by_cases c : i = b
        · rw [c]; exact z
        · exact hz i (by omega) h2
      · refine Or.inr ⟨j, e, by omega, hj, h1, fun i h3 h4 => ?_⟩
        by_cases c : i = b
        · rw [c]; exact z
        · exact h2 i (by omega) h4
end
end
section
/-! elapse, on both sides -/
def sj_uN (f : Nat → Nat) (k v : Nat) : Nat → Nat := fun j => if j = k then v else f j
theorem sj_us {f : Nat → Nat} {k v : Nat} : sj_uN f k v k = v := if_pos rfl
theorem sj_un {f : Nat → Nat} {k v j : Nat} (h : j ≠ k) : sj_uN f k v j = f j := if_neg h
theorem sj_ct_le (L : Nat → Nat) (n : Nat) : sj_ct L n ≤ n := by
  have h := sj_le (f := fun i => if L i = 0 then 0 else 1) (g := fun _ => 1) (n := n) (by
    intro i _
    show (if L i = 0 then 0 else 1) ≤ 1
    by_cases e : L i = 0
    · rw [if_pos e]; omega
    · rw [if_neg e]; omega)
  rw [sj_const] at h
  exact h
theorem sj_ct_full {L : Nat → Nat} {n : Nat} (h : ∀ i, i < n → L i ≠ 0) : sj_ct L n = n := by
  have e := sj_cg (f := fun i => if L i = 0 then 0 else 1) (g := fun _ => 1) (n := n) (fun i hi => by
    show (if L i = 0 then 0 else 1) = 1
    rw [if_neg (h i hi)])
  rw [sj_const] at e
  exact e
theorem sj_ct_add {L : Nat → Nat} {j v n : Nat} (hj : j < n) (h0 : L j = 0) (hv : v ≠ 0) : sj_ct (sj_uN L j v) n = sj_ct L n + 1 := by
  have e := sj_up (f := fun i => if L i = 0 then 0 else 1) (g := fun i => if sj_uN L j v i = 0 then 0 else 1) (x := j) (fun i hi => by
    show (if sj_uN L j v i = 0 then 0 else 1) = (if L i = 0 then 0 else 1)
    rw [sj_un hi]) hj
  try dsimp only at e
  rw [if_pos h0, sj_us, if_neg hv] at e
  exact e
theorem sj_ct_sub {L : Nat → Nat} {j n : Nat} (hj : j < n) (h0 : L j ≠ 0) : sj_ct (sj_uN L j 0) n + 1 = sj_ct L n := by
  have e := sj_up (f := fun i => if L i = 0 then 0 else 1) (g := fun i => if sj_uN L j 0 i = 0 then 0 else 1) (x := j) (fun i hi => by
    show (if sj_uN L j 0 i = 0 then 0 else 1) = (if L i = 0 then 0 else 1)
    rw [sj_un hi]) hj
  try dsimp only at e
  rw [if_neg h0, sj_us, if_pos rfl] at e
  exact e
theorem sj_ct_lt {L : Nat → Nat} {j n : Nat} (hj : j < n) (h0 : L j = 0) : sj_ct L n < n := by
  have h1 := sj_ct_add (v := 1) hj h0 (by omega)
  have h2 := sj_ct_le (sj_uN L j 1) n
  omega
theorem sj_first {L : Nat → Nat} : ∀ n : Nat, sj_ct L n < n → ∃ j, j < n ∧ L j = 0 ∧ ∀ i, i < j → L i ≠ 0 := by
  intro n
  induction n with
  | zero => intro h; omega
  | succ n ih =>
    intro h
    by_cases c : sj_ct L n < n
    · obtain ⟨j, hj, h1, h2⟩ := ih c
      exact ⟨j, by omega, h1, h2⟩
    · have hle := sj_ct_le L n
      have hs : sj_ct L (n + 1) = sj_ct L n + (if L n = 0 then 0 else 1) := rfl
      have hn : L n = 0 := by
        apply Classical.byContradiction
        intro z
        rw [if_neg z] at hs
        omega
      refine ⟨n, by omega, hn, fun i hi z => ?_⟩
      have := sj_ct_lt hi z
      omega
theorem sj_P_del {L : Nat → Nat} {j : Nat} : ∀ i, i < 11 → (sj_P (sj_uN L j 0) i = true ↔ sj_del (sj_P L) j i = true) := by
  intro i _
  rw [sj_PI, sj_delI, sj_PI]
  by_cases c : i = j
  · rw [c, sj_us]
    exact ⟨fun z => absurd rfl z.2, fun z => absurd rfl z.2⟩
  · rw [sj_un c]
    exact ⟨fun z => ⟨z, c⟩, fun z => z.1⟩
theorem sj_P_ins {L : Nat → Nat} {j l : Nat} (hj : j < 10) (hl : l ≠ 0) : ∀ i, i < 11 → (sj_P (sj_uN L j l) i = true ↔ sj_ins (sj_P L) j i = true) := by
  intro i _
  rw [sj_PI, sj_insI, sj_PI]
  by_cases c : i = j
  · rw [c, sj_us]
    exact ⟨fun _ => Or.inr rfl, fun _ => ⟨hj, hl⟩⟩
  · rw [sj_un c]
    exact ⟨fun z => Or.inl z, fun z => z.elim id (fun q => absurd q c)⟩
theorem sj_short {z : Int32} (h1 : -32768 ≤ z.toInt) (h2 : z.toInt < 32768) : vp_nar .short z.toInt16.toInt32 = z := by
  rw [vp_nar_short, lg_i2s_small h1 h2, lg_i2s_small h1 h2]
theorem sj_sub0 {a b : Nat} (ha : a ≤ 200) (hb : b ≤ 200) : (0 : Int32) ≤ nI a - nI b ↔ b ≤ a := by
  rw [Int32.le_iff_toInt_le, pk_sub_toInt (by omega) (by omega), show (0 : Int32).toInt = 0 by decide]
  omega
theorem sj_short2 {a b : Nat} (ha : a ≤ 200) (hb : b ≤ 200) : vp_nar .short (nI a - nI b).toInt16.toInt32 = nI a - nI b := by
  have e := pk_sub_toInt (a := a) (b := b) (by omega) (by omega)
  exact sj_short (by rw [e]; omega) (by rw [e]; omega)
def sj_el (L D : Nat → Nat) (t k : Nat) : Nat → Nat := fun j => if j < k ∧ D j < t then 0 else L j
def sj_ed (D : Nat → Nat) (t k : Nat) : Nat → Nat := fun j => if j < k then D j - t else D j
section
variable {L D : Nat → Nat} {t k : Nat}
theorem sj_el_n {i : Nat} (h : i ≠ k) : sj_el L D t (k + 1) i = sj_el L D t k i := by
  show (if i < k + 1 ∧ D i < t then 0 else L i) = (if i < k ∧ D i < t then 0 else L i)
  by_cases c : i < k
  · by_cases d : D i < t
    · rw [if_pos ⟨by omega, d⟩, if_pos ⟨c, d⟩]
    · rw [if_neg (fun z => d z.2), if_neg (fun z => d z.2)]
  · rw [if_neg (fun z => absurd z.1 (by omega)), if_neg (fun z => absurd z.1 (by omega))]
theorem sj_el_k : sj_el L D t k k = L k := by
  show (if k < k ∧ D k < t then 0 else L k) = L k
  rw [if_neg (fun z => absurd z.1 (by omega))]
theorem sj_el_same (h : L k = 0 ∨ ¬ D k < t) : sj_el L D t (k + 1) = sj_el L D t k := by
  funext i
  by_cases c : i = k
  · subst c
    rw [sj_el_k]
    show (if i < i + 1 ∧ D i < t then 0 else L i) = L i
    by_cases d : D i < t
    · rw [if_pos ⟨by omega, d⟩]
      rcases h with h | h
      · exact h.symm
      · exact absurd d h
    · rw [if_neg (fun z => d z.2)]
  · exact sj_el_n c
theorem sj_el_drop (h : D k < t) : sj_el L D t (k + 1) = sj_uN (sj_el L D t k) k 0 := by
  funext i
  by_cases c : i = k
  · subst c
    rw [sj_us]
    show (if i < i + 1 ∧ D i < t then 0 else L i) = 0
    rw [if_pos ⟨by omega, h⟩]
  · rw [sj_un c, sj_el_n c]
theorem sj_ed_n {i : Nat} (h : i ≠ k) : sj_ed D t (k + 1) i = sj_ed D t k i := by
  show (if i < k + 1 then D i - t else D i) = (if i < k then D i - t else D i)
  by_cases c : i < k
  · rw [if_pos (by omega), if_pos c]
  · rw [if_neg (by omega), if_neg c]
theorem sj_ed_k : sj_ed D t k k = D k := if_neg (by omega)
theorem sj_ed_s : sj_ed D t (k + 1) k = D k - t := if_pos (by omega)
/-- X within elapse -/
def sj_EX (L D : Nat → Nat) (t k : Nat) (r : Nat → Nat) (m : Nat) (al dl ra : Nat → Int32) : Prop :=
  m = sj_ct (sj_el L D t k) 10 ∧ (∀ i, i < 11 → al i = nI (sj_el L D t k i) ∧ sj_el L D t k i ≤ 50) ∧ (∀ i, i < 10 → sj_el L D t k i ≠ 0 → dl i = nI (sj_ed D t k i)) ∧
    sj_Or D (sj_P (sj_el L D t k)) r m ∧ (∀ p, p < m → ra p = nI (r p))
theorem sj_xel15 {post : Int32 → SX → Prop} {ad ac tt : Int32} {fm : Nat → Int32} (ht : t ≤ 200) (hD : ∀ i, i < 10 → L i ≠ 0 → D i ≤ 200)
    (K : ∀ (r : Nat → Nat) (m : Nat) (al dl ra : Nat → Int32), sj_EX L D t 10 r m al dl ra → post (nI m) (nI m, nI m, ad, ac, tt, al, dl, fm, ra)) :
    ∀ (n k : Nat) (r : Nat → Nat) (m : Nat) (al dl ra : Nat → Int32), 10 - k < n → k ≤ 10 → sj_EX L D t k r m al dl ra → wX_elapse_15 post (nI t) n (nI k) (nI m) (nI m) ad ac tt al dl fm ra := by
  intro n
  induction n with
  | zero => intro k r m al dl ra h; omega
  | succ n ih =>
    intro k r m al dl ra hn hk hE
    refine pk_le 10 k (fun h => ?_) (fun h => ?_)
    · have e : k = 10 := by omega
      subst e
      exact K r m al dl ra hE
    · obtain ⟨hm, hal, hdl, hO, hra⟩ := hE
      have hak := hal k (by omega)
      rw [nI_clamp (n := k) (by omega), hak.1, sj_el_k]
      rw [sj_el_k] at hak
      refine ⟨vp_in_nI (by omega) (by decide), ek_c (sj_eq0 (by omega)) (fun z => nm_r (nI_1 k) (ih (k + 1) r m al dl ra (by omega) (by omega) ?_)) (fun z => ?_)⟩
      · have e := sj_el_same (D := D) (t := t) (Or.inl z)
        refine ⟨by rw [e]; exact hm, by rw [e]; exact hal, ?_, by rw [e]; exact hO, hra⟩
        rw [e]
        intro i hi q
        have hne : i ≠ k := fun c => q (by rw [c, sj_el_k]; exact z)
        rw [sj_ed_n hne]; exact hdl i hi q
      · have hdk := hdl k h (by rw [sj_el_k]; exact z)
        have hDk := hD k h z
        rw [sj_ed_k] at hdk
        rw [hdk, sj_short2 hDk ht]
        refine ⟨vp_in_nI (by omega) (by decide), vp_in_nI (by omega) (by decide), nm_e ⟨vp_in_nI (by omega) (by decide), ?_⟩⟩
        rw [pk_us]
        refine ek_c (sj_sub0 hDk ht) (fun c => nm_r (nI_1 k) (ih (k + 1) r m al _ ra (by omega) (by omega) ?_)) (fun c => ?_)
        · have e := sj_el_same (L := L) (D := D) (t := t) (k := k) (Or.inr (by omega))
          refine ⟨by rw [e]; exact hm, by rw [e]; exact hal, ?_, by rw [e]; exact hO, hra⟩
          rw [e]
          intro i hi q
          by_cases d : i = k
          · subst d
            rw [pk_us, sj_ed_s, pk_sub c]
          · rw [pk_un d, sj_ed_n d]; exact hdl i hi q
        · have hkP : sj_P (sj_el L D t k) k = true := sj_PI.mpr ⟨h, by rw [sj_el_k]; exact z⟩
          obtain ⟨a, ha, ea⟩ := (hO.2.2.2 k (by omega)).mp hkP
          have hmle := sj_ct_le (sj_el L D t k) 10
          obtain ⟨M, rfl⟩ : ∃ M, m = M + 1 := ⟨m - 1, by omega⟩
          refine sj_xdrop (L := sj_el L D t k) (r := r) (by omega) h hal (by rw [sj_el_k]; exact z) hO.1 hra ⟨a, by omega, ea⟩ (fun a' ra' ha' ea' hra' => nm_r (nI_1 k) (ih (k + 1) (sj_delF r a') M _ _ _ (by omega) (by omega) ?_))
          have e := sj_el_drop (L := L) (D := D) (t := t) (k := k) (by omega)
          have hc := sj_ct_sub (L := sj_el L D t k) (j := k) (n := 10) h (by rw [sj_el_k]; exact z)
          refine ⟨by rw [e]; omega, ?_, ?_, ?_, hra'⟩
          · rw [e]
            intro i hi
            by_cases d : i = k
            · subst d; rw [pk_us, sj_us]; exact ⟨rfl, by omega⟩
            · rw [pk_un d, sj_un d]; exact hal i hi
          · intro i hi q
            have hne : i ≠ k := fun d => q (by rw [e, d, sj_us])
            rw [pk_un hne, sj_ed_n hne]
            exact hdl i hi (by rw [e, sj_un hne] at q; exact q)
          · rw [e]
            exact sj_Or_P (sj_Or_del hO ha' ea') sj_P_del
/-- the reference within elapse -/
def sj_EY (L D : Nat → Nat) (t k : Nat) (bl bd : Nat → Int32) : Prop :=
  (∀ i, i < 10 → bl i = nI (sj_el L D t k i)) ∧ (∀ i, i < 10 → sj_el L D t k i ≠ 0 → bd i = nI (sj_ed D t k i))
theorem sj_yel15 {post : Int32 → SY → Prop} {bf bg bj : Nat → Int32} (ht : t ≤ 200) (hL : ∀ i, i < 10 → L i ≤ 50) (hD : ∀ i, i < 10 → L i ≠ 0 → D i ≤ 200)
    (K : ∀ (bl bd : Nat → Int32), sj_EY L D t 10 bl bd → post (nI (sj_ct (sj_el L D t 10) 10)) (bl, bd, bf, bg, bj)) :
    ∀ (n k : Nat) (bl bd : Nat → Int32), 10 - k < n → k ≤ 10 → sj_EY L D t k bl bd → wY_elapse_15 post (nI t) n (nI k) bl bd bf bg bj := by
  intro n
  induction n with
  | zero => intro k bl bd h; omega
  | succ n ih =>
    intro k bl bd hn hk hE
    refine pk_le 10 k (fun h => ?_) (fun h => ?_)
    · have e : k = 10 := by omega
      subst e
      refine sj_yjobs (L := sj_el L D t 10) (fun i hi => ⟨hE.1 i hi, ?_⟩) (K bl bd hE)
      show (if i < 10 ∧ D i < t then 0 else L i) ≤ 50
      by_cases c : i < 10 ∧ D i < t
      · rw [if_pos c]; omega
      · rw [if_neg c]; exact hL i hi
    · obtain ⟨hbl, hbd⟩ := hE
      rw [nI_clamp (n := k) (by omega)]
      refine ⟨vp_in_nI (by omega) (by decide), vp_in_nI (by omega) (by decide), nm_e ⟨vp_in_nI (by omega) (by decide), ?_⟩⟩
      rw [pk_us]
      by_cases z : L k = 0
      · have e := sj_el_same (D := D) (t := t) (Or.inl z)
        have hd' : ∀ (v : Int32), ∀ i, i < 10 → sj_el L D t (k + 1) i ≠ 0 → upd bd k v i = nI (sj_ed D t (k + 1) i) := by
          intro v i hi q
          rw [e] at q
          have hne : i ≠ k := fun c => q (by rw [c, sj_el_k]; exact z)
          rw [pk_un hne, sj_ed_n hne]; exact hbd i hi q
        refine br_c (fun _ => nm_r (nI_1 k) (ih (k + 1) _ _ (by omega) (by omega) ⟨by rw [e]; exact hbl, hd' _⟩)) (fun _ => ⟨vp_in_nI (by omega) (by decide), nm_e (nm_r (nI_1 k) (ih (k + 1) _ _ (by omega) (by omega) ⟨fun i hi => ?_, hd' _⟩))⟩)
        rw [e]
        by_cases c : i = k
        · rw [c, pk_us, sj_el_k, z]; rfl
        · rw [pk_un c]; exact hbl i hi
      · have hdk := hbd k h (by rw [sj_el_k]; exact z)
        have hDk := hD k h z
        rw [sj_ed_k] at hdk
        rw [hdk]
        refine ek_c (sj_sub0 hDk ht) (fun c => nm_r (nI_1 k) (ih (k + 1) _ _ (by omega) (by omega) ?_)) (fun c => ⟨vp_in_nI (by omega) (by decide), nm_e (nm_r (nI_1 k) (ih (k + 1) _ _ (by omega) (by omega) ?_))⟩)
        · have e := sj_el_same (L := L) (D := D) (t := t) (k := k) (Or.inr (by omega))
          refine ⟨by rw [e]; exact hbl, ?_⟩
          rw [e]
          intro i hi q
          by_cases d : i = k
          · subst d
            rw [pk_us, sj_ed_s, pk_sub c]
          · rw [pk_un d, sj_ed_n d]; exact hbd i hi q
        · have e := sj_el_drop (L := L) (D := D) (t := t) (k := k) (by omega)
          refine ⟨fun i hi => ?_, fun i hi q => ?_⟩
          · rw [e]
            by_cases d : i = k
            · subst d; rw [pk_us, sj_us]; rfl
            · rw [pk_un d, sj_un d]; exact hbl i hi
          · have hne : i ≠ k := fun d => q (by rw [e, d, sj_us])
            rw [pk_un hne, sj_ed_n hne]
            exact hbd i hi (by rw [e, sj_un hne] at q; exact q)
end
end
section
/-! the relation -/
def sj_R (L D r : Nat → Nat) (m : Nat) (jc rk : Int32) (al dl fm ra bl bd bf : Nat → Int32) : Prop :=
  jc = nI m ∧ rk = nI m ∧ m = sj_ct L 10 ∧ (∀ i, i < 11 → al i = nI (L i) ∧ L i ≤ 50) ∧ sj_YP L D bl bd ∧ (∀ i, i < 10 → L i ≠ 0 → dl i = nI (D i)) ∧
    (∀ i, i < 10 → bf i = fm i) ∧ (∀ i, i < 11 → fm i = 0 ∨ fm i = 1) ∧ sj_Or D (sj_P L) r m ∧ (∀ p, p < m → ra p = nI (r p))
def i_Rel (_ : Nat) (u : SX) (v : SY) : Prop := match u, v with
  | (jc, rk, _, _, _, al, dl, fm, ra), (bl, bd, bf, _, _) => ∃ (L D r : Nat → Nat) (m : Nat), sj_R L D r m jc rk al dl fm ra bl bd bf
theorem i_up {k : Nat} {u : SX} {v : SY} (h : i_Rel k u v) : i_Rel (k + 4) u v := h
theorem i_vc0 : wpX_init (fun u => wpY_init (fun v => i_Rel 0 u v)) := by
  refine ⟨fun _ => 0, fun _ => 0, fun _ => 0, 0, rfl, rfl, rfl, fun i _ => ⟨rfl, Nat.zero_le _⟩, ⟨fun i _ => ⟨rfl, Nat.zero_le _⟩, fun i _ z => absurd rfl z⟩, fun i _ z => absurd rfl z, fun i _ => rfl, fun i _ => Or.inl rfl, ⟨fun p h => by omega, fun p q h1 h2 => by omega, fun p q h1 h2 => by omega, fun i _ => ?_⟩, fun p h => by omega⟩
  rw [sj_PI]
  exact ⟨fun z => absurd rfl z.2, fun ⟨p, hp, _⟩ => by omega⟩
section
variable {L D r : Nat → Nat} {m : Nat}
theorem sj_dlp {dl : Nat → Int32} (hO : sj_Or D (sj_P L) r m) (hdl : ∀ i, i < 10 → L i ≠ 0 → dl i = nI (D i)) (hD : ∀ i, i < 10 → L i ≠ 0 → D i ≤ 200) :
    ∀ p, p < m → dl (r p) = nI (D (r p)) ∧ D (r p) ≤ 200 := by
  intro p hp
  have z := sj_PI.mp ((hO.2.2.2 (r p) (hO.1 p hp)).mpr ⟨p, hp, rfl⟩)
  exact ⟨hdl _ z.1 z.2, hD _ z.1 z.2⟩
theorem sj_fs_eq {fm bf : Nat → Int32} (h : ∀ i, i < 10 → bf i = fm i) : sj_fs bf (sj_P L) = sj_fs fm (sj_P L) := by
  funext i
  unfold sj_fs
  by_cases c : i < 10
  · rw [h i c]
  · unfold sj_P
    rw [decide_eq_false (fun z => c z.1), Bool.false_and, Bool.false_and]
theorem sj_mx_1 {P G T : Nat → Bool} {c : Int32} (h : sj_mx L D P G c) (hT : sj_best L D P G T) : c = nI (sj_cn T) := by
  rcases h with ⟨_, z⟩ | ⟨T', e, h1, h2⟩
  · exact absurd hT.1 (z T)
  · have a := h2 T hT.1
    have b := (hT.2 T' h1).1
    rw [e, show sj_cn T' = sj_cn T by omega]
theorem sj_mx_0 {P G : Nat → Bool} {c : Int32} (h : sj_mx L D P G c) (hT : ∀ S, ¬ sj_ok L D P G S) : c = -3 := by
  rcases h with ⟨e, _⟩ | ⟨T', _, h1, _⟩
  · exact e
  · exact absurd h1 (hT T')
theorem sj_lt_1 {P G T : Nat → Bool} {c : Int32} (h : sj_lt L D P G c) (hT : sj_best L D P G T) : c = nI (sj_tm L T) := by
  rcases h with ⟨_, z⟩ | ⟨T', e, h1⟩
  · exact absurd hT.1 (z T)
  · have a := h1.2 T hT.1
    have b := hT.2 T' h1.1
    have ec : sj_cn T = sj_cn T' := by omega
    have a2 := a.2 ec
    have b2 := b.2 ec.symm
    rw [e, show sj_tm L T' = sj_tm L T by omega]
theorem sj_lt_0 {P G : Nat → Bool} {c : Int32} (h : sj_lt L D P G c) (hT : ∀ S, ¬ sj_ok L D P G S) : c = -3 := by
  rcases h with ⟨e, _⟩ | ⟨T', _, h1⟩
  · exact e
  · exact absurd h1.1 (hT T')
end
/-! the reference's methods that begin with a check -/
section
variable {post : Int32 → SY → Prop} {bl bd bf bg bj : Nat → Int32} {L D : Nat → Nat} {x : Int32} {j : Nat}
theorem sj_ydrop0 (hbl : ∀ i, i < 10 → bl i = nI (L i) ∧ L i ≤ 50) (hp : ¬ sj_pl L x) (K : post (-1) (bl, bd, bf, bg, bj)) : wpY_drop post (bl, bd, bf, bg, bj) x := by
  unfold wpY_drop
  dsimp only
  exact sj_yJob hbl (fun z => absurd z hp) (fun _ => br_t rfl K)
theorem sj_ydrop1 (hbl : ∀ i, i < 10 → bl i = nI (L i) ∧ L i ≤ 50) (hj : j < 10) (hLj : L j ≠ 0) (hbl' : ∀ i, i < 10 → upd bl j 0 i = nI (sj_uN L j 0 i) ∧ sj_uN L j 0 i ≤ 50)
    (K : post (nI (sj_ct (sj_uN L j 0) 10)) (upd bl j 0, bd, bf, bg, bj)) : wpY_drop post (bl, bd, bf, bg, bj) (nI j) := by
  unfold wpY_drop
  dsimp only
  exact sj_yJob hbl (fun _ => br_f (by decide) ⟨vp_in_nI hj (by decide), nm_r (e' := upd bl j 0) (by rw [nI_clamp (by omega)]) (sj_yjobs hbl' K)⟩) (fun z => absurd ⟨j, hj, rfl, hLj⟩ z)
theorem sj_ymf0 {y : Int32} (hbl : ∀ i, i < 10 → bl i = nI (L i) ∧ L i ≤ 50) (hp : ¬ sj_pl L x) (K : post 0 (bl, bd, bf, bg, bj)) : wpY_makeFirm post (bl, bd, bf, bg, bj) x y := by
  unfold wpY_makeFirm
  dsimp only
  exact sj_yJob hbl (fun z => absurd z hp) (fun _ => br_t rfl K)
theorem sj_ymf1 {y : Int32} (hbl : ∀ i, i < 10 → bl i = nI (L i) ∧ L i ≤ 50) (hj : j < 10) (hLj : L j ≠ 0) (hy : y = 0 ∨ y = 1)
    (K : post 1 (bl, bd, upd bf j y, bg, bj)) : wpY_makeFirm post (bl, bd, bf, bg, bj) (nI j) y := by
  unfold wpY_makeFirm
  dsimp only
  exact sj_yJob hbl (fun _ => br_f (by decide) ⟨vp_in_nI hj (by decide), nm_r (e' := upd bf j y) (by rw [nI_clamp (by omega), sj_n01 hy]) K⟩) (fun z => absurd ⟨j, hj, rfl, hLj⟩ z)
theorem sj_yaff0 (hbl : ∀ i, i < 10 → bl i = nI (L i) ∧ L i ≤ 50) (hp : ¬ sj_pl L x) (K : post 0 (bl, bd, bf, bg, bj)) : wpY_affordable post (bl, bd, bf, bg, bj) x := by
  unfold wpY_affordable
  dsimp only
  exact sj_yJob hbl (fun z => absurd z hp) (fun _ => br_t rfl K)
theorem sj_ywel0 {y : Int32} (hp : ¬ sj_job x y) (K : post 0 (bl, bd, bf, bg, bj)) : wpY_welcome post (bl, bd, bf, bg, bj) x y := by
  unfold wpY_welcome
  dsimp only
  exact sj_yfits (fun z => absurd z hp) (fun _ => br_t rfl K)
end
end
section
/-! the owed statements: the jobs themselves -/
theorem i_vc_put {k : Nat} {u : SX} {v : SY} (I : i_Rel k u v) (hk : k + 4 ≤ 2048) (v1 : Int32) (v2 : Int32) (v3 : Int32) : wpX_put (fun r u' => wpY_put (fun r' v' => r' = r ∧ i_Rel (k + 4) u' v') v v1 v2 (lw_bz v3)) u v1 v2 (lw_bz v3) := by
  obtain ⟨jc, rk, ad, ac, tt, al, dl, fm, ra⟩ := u
  obtain ⟨bl, bd, bf, bg, bj⟩ := v
  obtain ⟨L, D, r, m, rfl, rfl, hm, hal, hY, hdl, hbf, hf01, hO, hra⟩ := id I
  have hm10 := sj_ct_le L 10
  have ybody : ∀ (post : Int32 → SY → Prop), ((∀ i, i < 10 → L i ≠ 0) → post (-2) (bl, bd, bf, bg, bj)) → (∀ j : Nat, j < 10 → L j = 0 → ¬ sj_job v1 v2 → post (-1) (bl, bd, bf, bg, bj)) →
      (∀ j : Nat, j < 10 → L j = 0 → (∀ i, i < j → L i ≠ 0) → sj_job v1 v2 → post (nI j) (upd bl j v1, upd bd j v2, upd bf j (vp_nar .boolean (lw_bz v3)), bg, bj)) → wpY_put post (bl, bd, bf, bg, bj) v1 v2 (lw_bz v3) :=
    fun post KF K0 K1 => ⟨11, sj_yput7 hY.1 KF K0 K1 11 10 (-1) (by omega) (by omega) (Or.inl ⟨rfl, fun i h1 h2 => by omega⟩)⟩
  refine pk_lt m 10 (fun h => ?_) (fun h => ?_)
  · obtain ⟨j, hj, hj0, hj1⟩ := sj_first 10 (show sj_ct L 10 < 10 by omega)
    refine sj_xJob (fun hjob => br_f (by decide) ?_) (fun hjob => br_t rfl (ybody _ (fun z => absurd hj0 (z j hj)) (fun _ _ _ _ => ⟨rfl, I⟩) (fun _ _ _ _ z => absurd z hjob)))
    obtain ⟨l, d, rfl, rfl, hl1, hl2, hd2⟩ := sj_job_nI hjob
    have hjP : ¬ sj_P L j = true := fun z => (sj_PI.mp z).2 hj0
    have hne : ∀ p, p < m → r p ≠ j := fun p hp e => hjP ((hO.2.2.2 j (by omega)).mpr ⟨p, hp, e⟩)
    have hdlp := sj_dlp hO hdl (fun i hi z => (hY.2 i hi z).2)
    refine ⟨j + 1, sj_xfind hj hal hj0 hj1 ?_ (j + 1) 0 (by omega) (by omega)⟩
    refine ⟨vp_in_nI (by omega) (by decide), nm_r (e' := upd al j (nI l)) (by rw [nI_clamp (by omega), sj_nb2 (by omega)]) ⟨vp_in_nI (by omega) (by decide), nm_r (e' := upd dl j (nI d)) (by rw [nI_clamp (by omega), sj_ns2 (by omega)])
      ⟨vp_in_nI (by omega) (by decide), nm_r (e' := upd fm j (lw_bz v3)) (by rw [nI_clamp (by omega), sj_n01 (lw_bz_01 v3)]) (nm_r (nI_1 m) ?_)⟩⟩⟩
    have hOD : sj_Or (sj_uN D j d) (sj_P L) r m := sj_Or_D hO (fun i i' _ _ h1 h2 h3 => by
      have n1 : i ≠ j := fun e => hjP (by rw [← e]; exact h1)
      have n2 : i' ≠ j := fun e => hjP (by rw [← e]; exact h2)
      rw [sj_un n1, sj_un n2]; exact h3)
    refine sj_xins (D := sj_uN D j d) (r := r) (by omega) (by omega) hO.1 (fun p hp => ?_) (by rw [pk_us, sj_us]) (by rw [sj_us]; exact hd2) hra (fun a ra' ha hra' h1 h2 => ?_)
    · rw [pk_un (hne p hp), sj_un (hne p hp)]; exact hdlp p hp
    · refine ybody _ (fun z => absurd hj0 (z j hj)) (fun _ _ _ z => absurd hjob z) (fun j' hj' hz hz1 _ => ?_)
      have ej : j' = j := by
        rcases Nat.lt_trichotomy j' j with c | c | c
        · exact absurd hz (hj1 j' c)
        · exact c
        · exact absurd hj0 (hz1 j c)
      subst ej
      refine ⟨rfl, sj_uN L j' l, sj_uN D j' d, sj_insF r a j', m + 1, rfl, rfl, ?_, fun i hi => ?_, ⟨fun i hi => ?_, fun i hi z => ?_⟩, fun i hi z => ?_, fun i hi => ?_, fun i hi => ?_, ?_, hra'⟩
      · rw [sj_ct_add hj hj0 (by omega)]; omega
      · by_cases c : i = j'
        · rw [c, pk_us, sj_us]; exact ⟨rfl, hl2⟩
        · rw [pk_un c, sj_un c]; exact hal i hi
      · by_cases c : i = j'
        · rw [c, pk_us, sj_us]; exact ⟨rfl, hl2⟩
        · rw [pk_un c, sj_un c]; exact hY.1 i hi
      · by_cases c : i = j'
        · rw [c, pk_us, sj_us]; exact ⟨rfl, hd2⟩
        · rw [sj_un c] at z
          rw [pk_un c, sj_un c]; exact hY.2 i hi z
      · by_cases c : i = j'
        · rw [c, pk_us, sj_us]
        · rw [sj_un c] at z
          rw [pk_un c, sj_un c]; exact hdl i hi z
      · by_cases c : i = j'
        · rw [c, pk_us, pk_us, sj_n01 (lw_bz_01 v3)]
        · rw [pk_un c, pk_un c]; exact hbf i hi
      · by_cases c : i = j'
        · rw [c, pk_us]; exact lw_bz_01 v3
        · rw [pk_un c]; exact hf01 i hi
      · exact sj_Or_P (sj_Or_ins hOD (by omega) hjP ha h1 h2) (sj_P_ins hj (by omega))
  · have hfull : ∀ j, j < 10 → L j = 0 → False := fun j hj z => by
      have := sj_ct_lt hj z
      omega
    exact ybody _ (fun _ => ⟨rfl, I⟩) (fun j hj z => (hfull j hj z).elim) (fun j hj z => (hfull j hj z).elim)
theorem i_vc_drop {k : Nat} {u : SX} {v : SY} (I : i_Rel k u v) (hk : k + 4 ≤ 2048) (v1 : Int32) : wpX_drop (fun r u' => wpY_drop (fun r' v' => r' = r ∧ i_Rel (k + 4) u' v') v v1) u v1 := by
  obtain ⟨jc, rk, ad, ac, tt, al, dl, fm, ra⟩ := u
  obtain ⟨bl, bd, bf, bg, bj⟩ := v
  obtain ⟨L, D, r, m, rfl, rfl, hm, hal, hY, hdl, hbf, hf01, hO, hra⟩ := id I
  have hm10 := sj_ct_le L 10
  by_cases hp : sj_pl L v1
  · obtain ⟨j, hj, rfl, hLj⟩ := id hp
    obtain ⟨a, ha, ea⟩ := (hO.2.2.2 j (by omega)).mp (sj_PI.mpr ⟨hj, hLj⟩)
    obtain ⟨M, rfl⟩ : ∃ M, m = M + 1 := ⟨m - 1, by omega⟩
    have hc := sj_ct_sub hj hLj
    refine sj_xdrop (L := L) (r := r) (by omega) hj hal hLj hO.1 hra ⟨a, by omega, ea⟩ (fun a' ra' ha' ea' hra' => ?_)
    have hbl' : ∀ i, i < 10 → upd bl j 0 i = nI (sj_uN L j 0 i) ∧ sj_uN L j 0 i ≤ 50 := by
      intro i hi
      by_cases c : i = j
      · rw [c, pk_us, sj_us]; exact ⟨rfl, by omega⟩
      · rw [pk_un c, sj_un c]; exact hY.1 i hi
    refine sj_ydrop1 hY.1 hj hLj hbl' ?_
    refine ⟨by rw [show sj_ct (sj_uN L j 0) 10 = M by omega], sj_uN L j 0, D, sj_delF r a', M, rfl, rfl, by omega, fun i hi => ?_, ⟨hbl', fun i hi z => ?_⟩, fun i hi z => ?_, hbf, hf01, sj_Or_P (sj_Or_del hO ha' ea') sj_P_del, hra'⟩
    · by_cases c : i = j
      · rw [c, pk_us, sj_us]; exact ⟨rfl, by omega⟩
      · rw [pk_un c, sj_un c]; exact hal i hi
    · have c : i ≠ j := fun e => z (by rw [e, sj_us])
      rw [sj_un c] at z
      exact hY.2 i hi z
    · have c : i ≠ j := fun e => z (by rw [e, sj_us])
      rw [sj_un c] at z
      exact hdl i hi z
  · exact sj_xdrop0 hal hp (sj_ydrop0 hY.1 hp ⟨rfl, I⟩)
theorem i_vc_makeFirm {k : Nat} {u : SX} {v : SY} (I : i_Rel k u v) (hk : k + 4 ≤ 2048) (v1 : Int32) (v2 : Int32) : wpX_makeFirm (fun r u' => wpY_makeFirm (fun r' v' => r' = r ∧ i_Rel (k + 4) u' v') v v1 (lw_bz v2)) u v1 (lw_bz v2) := by
  obtain ⟨jc, rk, ad, ac, tt, al, dl, fm, ra⟩ := u
  obtain ⟨bl, bd, bf, bg, bj⟩ := v
  obtain ⟨L, D, r, m, rfl, rfl, hm, hal, hY, hdl, hbf, hf01, hO, hra⟩ := id I
  unfold wpX_makeFirm
  dsimp only
  refine sj_xPlace hal (fun hp => br_f (by decide) ?_) (fun hp => br_t rfl (sj_ymf0 hY.1 hp ⟨rfl, I⟩))
  obtain ⟨j, hj, rfl, hLj⟩ := id hp
  refine ⟨vp_in_nI (by omega) (by decide), nm_r (e' := upd fm j (lw_bz v2)) (by rw [nI_clamp (by omega), sj_n01 (lw_bz_01 v2)]) ?_⟩
  refine sj_ymf1 hY.1 hj hLj (lw_bz_01 v2) ?_
  refine ⟨rfl, L, D, r, m, rfl, rfl, hm, hal, hY, hdl, fun i hi => ?_, fun i hi => ?_, hO, hra⟩
  · by_cases c : i = j
    · rw [c, pk_us, pk_us]
    · rw [pk_un c, pk_un c]; exact hbf i hi
  · by_cases c : i = j
    · rw [c, pk_us]; exact lw_bz_01 v2
    · rw [pk_un c]; exact hf01 i hi
theorem i_vc_jobs {k : Nat} {u : SX} {v : SY} (I : i_Rel k u v) (hk : k + 4 ≤ 2048) : wpX_jobs (fun r => wpY_jobs (fun r' => r' = r ∧ i_Rel (k + 4) u v) v) u := by
  obtain ⟨jc, rk, ad, ac, tt, al, dl, fm, ra⟩ := u
  obtain ⟨bl, bd, bf, bg, bj⟩ := v
  obtain ⟨L, D, r, m, rfl, rfl, hm, hal, hY, hdl, hbf, hf01, hO, hra⟩ := id I
  exact sj_yjobs hY.1 ⟨by rw [hm], I⟩
theorem i_vc_elapse {k : Nat} {u : SX} {v : SY} (I : i_Rel k u v) (hk : k + 4 ≤ 2048) (v1 : Int32) : wpX_elapse (fun r u' => wpY_elapse (fun r' v' => r' = r ∧ i_Rel (k + 4) u' v') v v1) u v1 := by
  obtain ⟨jc, rk, ad, ac, tt, al, dl, fm, ra⟩ := u
  obtain ⟨bl, bd, bf, bg, bj⟩ := v
  obtain ⟨L, D, r, m, rfl, rfl, hm, hal, hY, hdl, hbf, hf01, hO, hra⟩ := id I
  by_cases h0 : v1 < 0
  · exact br_t h0 (br_t h0 ⟨rfl, I⟩)
  · by_cases h2 : v1 ≤ 200
    · obtain ⟨t, ht, rfl⟩ := nI_of2 (M := 200) (n := 200) (by decide) h0 h2
      have e0 : sj_el L D t 0 = L := by
        funext i
        exact if_neg (fun z => absurd z.1 (by omega))
      have d0 : sj_ed D t 0 = D := by
        funext i
        exact if_neg (by omega)
      have hD : ∀ i, i < 10 → L i ≠ 0 → D i ≤ 200 := fun i hi z => (hY.2 i hi z).2
      refine br_f h0 (br_t h2 ⟨11, sj_xel15 (L := L) (D := D) ht hD (fun r' m' al' dl' ra' hE => ?_) 11 0 r m al dl ra (by omega) (by omega) ?_⟩)
      · refine br_f h0 (br_t h2 ⟨11, sj_yel15 (L := L) (D := D) ht (fun i hi => (hY.1 i hi).2) hD (fun bl' bd' hE2 => ?_) 11 0 bl bd (by omega) (by omega) ?_⟩)
        · obtain ⟨e1, e2, e3, e4, e5⟩ := hE
          refine ⟨by rw [e1], sj_el L D t 10, sj_ed D t 10, r', m', rfl, rfl, e1, e2, ⟨fun i hi => ⟨hE2.1 i hi, (e2 i (by omega)).2⟩, fun i hi z => ⟨hE2.2 i hi z, ?_⟩⟩, e3, hbf, hf01, sj_Or_D e4 (fun i j hi hj p1 p2 hle => ?_), e5⟩
          · have hLi : L i ≠ 0 := fun q => z (by
              show (if i < 10 ∧ D i < t then 0 else L i) = 0
              by_cases c : i < 10 ∧ D i < t
              · rw [if_pos c]
              · rw [if_neg c]; exact q)
            have := hD i hi hLi
            show (if i < 10 then D i - t else D i) ≤ 200
            rw [if_pos hi]; omega
          · have h1 := (sj_PI.mp p1).1
            have h2 := (sj_PI.mp p2).1
            show (if i < 10 then D i - t else D i) ≤ (if j < 10 then D j - t else D j)
            rw [if_pos h1, if_pos h2]; omega
        · exact ⟨by rw [e0]; exact fun i hi => (hY.1 i hi).1, by rw [e0, d0]; exact fun i hi z => (hY.2 i hi z).1⟩
      · exact ⟨by rw [e0]; exact hm, by rw [e0]; exact hal, by rw [e0, d0]; exact hdl, by rw [e0]; exact hO, hra⟩
    · exact br_f h0 (br_f h2 (br_f h0 (br_f h2 ⟨rfl, I⟩)))
end
section
/-! the owed statements: the answers -/
theorem i_vc_feasible {k : Nat} {u : SX} {v : SY} (I : i_Rel k u v) (hk : k + 4 ≤ 2048) (v1 : Int32) : wpX_feasible (fun r => wpY_feasible (fun r' v' => r' = r ∧ i_Rel (k + 4) u v') v v1) u v1 := by
  obtain ⟨jc, rk, ad, ac, tt, al, dl, fm, ra⟩ := u
  obtain ⟨bl, bd, bf, bg, bj⟩ := v
  obtain ⟨L, D, r, m, rfl, rfl, hm, hal, hY, hdl, hbf, hf01, hO, hra⟩ := id I
  have hm10 := sj_ct_le L 10
  by_cases h0 : v1 < 0
  · exact br_t h0 (br_t h0 ⟨rfl, I⟩)
  · by_cases h2 : v1 ≤ 1023
    · obtain ⟨s, hs, rfl⟩ := nI_of2 (M := 1023) (n := 1023) (by decide) h0 h2
      have hdlp := sj_dlp hO hdl (fun i hi z => (hY.2 i hi z).2)
      have hs' : s < 1024 := by omega
      refine br_f h0 (br_t h2 ⟨11, sj_xfe15 hs' (by omega) hO hal hdlp hra (fun i _ => sj_PI) (fun z => ?_) (fun z => ?_) 11 0 (by omega) (by omega) (fun i hi => by omega)⟩)
      · refine br_f h0 (br_t h2 (sj_yfg hY (fun bg' hg => ?_)))
        have e : bg' s = 1 := by
          rcases hg s hs' with w | w
          · exact w.1
          · exact absurd z w.2
        show vp_in (nI s) 1024 ∧ _
        rw [nI_clamp (n := s) (by omega), e]
        exact ⟨vp_in_nI hs' (by decide), rfl, rfl, I⟩
      · refine br_f h0 (br_t h2 (sj_yfg hY (fun bg' hg => ?_)))
        have e : bg' s = 0 := by
          rcases hg s hs' with w | w
          · exact absurd w.2 z
          · exact w.1
        show vp_in (nI s) 1024 ∧ _
        rw [nI_clamp (n := s) (by omega), e]
        exact ⟨vp_in_nI hs' (by decide), rfl, rfl, I⟩
    · exact br_f h0 (br_f h2 (br_f h0 (br_f h2 ⟨rfl, I⟩)))
theorem i_vc_mostInTime {k : Nat} {u : SX} {v : SY} (I : i_Rel k u v) (hk : k + 4 ≤ 2048) : wpX_mostInTime (fun r u' => wpY_mostInTime (fun r' v' => r' = r ∧ i_Rel (k + 4) u' v') v) u := by
  obtain ⟨jc, rk, ad, ac, tt, al, dl, fm, ra⟩ := u
  obtain ⟨bl, bd, bf, bg, bj⟩ := v
  obtain ⟨L, D, r, m, rfl, rfl, hm, hal, hY, hdl, hbf, hf01, hO, hra⟩ := id I
  have hm10 := sj_ct_le L 10
  have hdlp := sj_dlp hO hdl (fun i hi z => (hY.2 i hi z).2)
  unfold wpX_mostInTime
  dsimp only
  refine sj_xadmit (L := L) (D := D) (P := sj_P L) (r := r) (by omega) hO hal hdlp hra (fun ad' hT => br_f (by decide) (sj_ymit hY (fun c bg' hc => ?_))) (fun ad' ac' tt' hT => br_t rfl (sj_ymit hY (fun c bg' hc => ?_)))
  · rw [sj_fs_eq hbf] at hc
    exact ⟨sj_mx_1 hc hT, I⟩
  · rw [sj_fs_eq hbf] at hc
    exact ⟨sj_mx_0 hc hT, I⟩
theorem i_vc_leastTime {k : Nat} {u : SX} {v : SY} (I : i_Rel k u v) (hk : k + 4 ≤ 2048) : wpX_leastTime (fun r u' => wpY_leastTime (fun r' v' => r' = r ∧ i_Rel (k + 4) u' v') v) u := by
  obtain ⟨jc, rk, ad, ac, tt, al, dl, fm, ra⟩ := u
  obtain ⟨bl, bd, bf, bg, bj⟩ := v
  obtain ⟨L, D, r, m, rfl, rfl, hm, hal, hY, hdl, hbf, hf01, hO, hra⟩ := id I
  have hm10 := sj_ct_le L 10
  have hdlp := sj_dlp hO hdl (fun i hi z => (hY.2 i hi z).2)
  unfold wpX_leastTime
  dsimp only
  refine sj_xadmit (L := L) (D := D) (P := sj_P L) (r := r) (by omega) hO hal hdlp hra (fun ad' hT => br_f (by decide) (sj_ylt hY (fun c bg' hc => ?_))) (fun ad' ac' tt' hT => br_t rfl (sj_ylt hY (fun c bg' hc => ?_)))
  · rw [sj_fs_eq hbf] at hc
    exact ⟨sj_lt_1 hc hT, I⟩
  · rw [sj_fs_eq hbf] at hc
    exact ⟨sj_lt_0 hc hT, I⟩
theorem sj_fs_up {fm : Nat → Int32} {P : Nat → Bool} {j : Nat} (hj : P j = true) : sj_fs (upd fm j 1) P = sj_ins (sj_fs fm P) j := by
  funext i
  unfold sj_fs sj_ins
  by_cases c : i = j
  · rw [c, pk_us, hj]; simp
  · rw [pk_un c, decide_eq_false c, Bool.or_false]
/-- the reference's affordable, at a place that holds a job -/
theorem sj_yaff {post : Int32 → SY → Prop} {bl bd bf bg bj : Nat → Int32} {L D : Nat → Nat} {j : Nat} (hj : j < 10) (hLj : L j ≠ 0) (hY : sj_YP L D bl bd)
    (K : ∀ (c c' : Int32) (bg' : Nat → Int32), sj_mx L D (sj_P L) (sj_fs bf (sj_P L)) c → sj_mx L D (sj_P L) (sj_ins (sj_fs bf (sj_P L)) j) c' → (c = -3 → post 0 (bl, bd, bf, bg', bj)) ∧ (¬ c = -3 → ((c = c' → post 1 (bl, bd, bf, bg', bj)) ∧ (¬ c = c' → post 0 (bl, bd, bf, bg', bj))))) :
    wpY_affordable post (bl, bd, bf, bg, bj) (nI j) := by
  unfold wpY_affordable
  dsimp only
  refine sj_yJob hY.1 (fun _ => br_f (by decide) (sj_ymit hY (fun c bg1 hc => ?_))) (fun z => absurd ⟨j, hj, rfl, hLj⟩ z)
  refine sj_yfs hY.1 (fun x hx => sj_ymost (sj_mG_ins hj (sj_mG_fs hx)) hY (fun c' bg2 _ hc' => ?_))
  exact K c c' bg2 hc hc'
theorem sj_back {fm : Nat → Int32} {j : Nat} (h : fm j = 0 ∨ fm j = 1) : upd (upd fm j 1) j (vp_nar .boolean (fm j)) = fm := by
  rw [sj_n01 h]
  funext i
  by_cases c : i = j
  · rw [c, pk_us]
  · rw [pk_un c, pk_un c]
theorem i_vc_affordable {k : Nat} {u : SX} {v : SY} (I : i_Rel k u v) (hk : k + 4 ≤ 2048) (v1 : Int32) : wpX_affordable (fun r u' => wpY_affordable (fun r' v' => r' = r ∧ i_Rel (k + 4) u' v') v v1) u v1 := by
  obtain ⟨jc, rk, ad, ac, tt, al, dl, fm, ra⟩ := u
  obtain ⟨bl, bd, bf, bg, bj⟩ := v
  obtain ⟨L, D, r, m, rfl, rfl, hm, hal, hY, hdl, hbf, hf01, hO, hra⟩ := id I
  have hm10 := sj_ct_le L 10
  have hdlp := sj_dlp hO hdl (fun i hi z => (hY.2 i hi z).2)
  unfold wpX_affordable
  dsimp only
  refine sj_xPlace hal (fun hp => br_f (by decide) ?_) (fun hp => br_t rfl (sj_yaff0 hY.1 hp ⟨rfl, I⟩))
  obtain ⟨j, hj, rfl, hLj⟩ := id hp
  have hPj : sj_P L j = true := sj_PI.mpr ⟨hj, hLj⟩
  have hbk := sj_back (hf01 j (by omega))
  have hc0 : (nI j).toNatClampNeg = j := nI_clamp (by omega)
  refine sj_xadmit (L := L) (D := D) (P := sj_P L) (r := r) (by omega) hO hal hdlp hra (fun ad1 hT => br_f (by decide) ⟨vp_in_nI (by omega) (by decide), nm_r (e' := fm j) (by rw [hc0]) ⟨vp_in_nI (by omega) (by decide), nm_r (e' := upd fm j 1) (by rw [hc0, sj_n01 (Or.inr rfl)]) ?_⟩⟩) (fun ad' ac' tt' hT => br_t rfl (sj_yaff hj hLj hY (fun c c' bg' hc hc' => ?_)))
  · have hcn1 := sj_cn_le (bt ad1)
    have hne : ¬ nI (sj_cn (bt ad1)) = -3 := sj_m3eq (by omega)
    have fin : ∀ (z : Int32) (ad2 ac2 tt2 : Int32), (z = 0 ∨ z = 1) → (∀ c' : Int32, sj_mx L D (sj_P L) (sj_ins (sj_fs fm (sj_P L)) j) c' → ((nI (sj_cn (bt ad1)) = c' → z = 1) ∧ (¬ nI (sj_cn (bt ad1)) = c' → z = 0))) →
        wX_affordable_56 (fun r u' => wpY_affordable (fun r' v' => r' = r ∧ i_Rel (k + 4) u' v') (bl, bd, bf, bg, bj) (nI j)) (nI j) (fm j) z (nI m) (nI m) ad2 ac2 tt2 al dl (upd fm j 1) ra := by
      intro z ad2 ac2 tt2 hz hK
      refine ⟨vp_in_nI (by omega) (by decide), nm_r (e' := fm) (by rw [hc0, hbk]) ⟨sj_nar hz, ?_⟩⟩
      refine sj_yaff hj hLj hY (fun c c' bg' hc hc' => ?_)
      rw [sj_fs_eq hbf] at hc hc'
      have e := sj_mx_1 hc hT
      rw [e]
      exact br_f hne (br_c (fun q => ⟨((hK c' hc').1 q).symm, I⟩) (fun q => ⟨((hK c' hc').2 q).symm, I⟩))
    refine sj_xadmit (L := L) (D := D) (P := sj_P L) (r := r) (by omega) hO hal hdlp hra (fun ad2 hT2 => br_f (by decide) ?_) (fun ad2 ac2 tt2 hT2 => br_t rfl ?_)
    · rw [sj_fs_up hPj] at hT2
      refine br_c (fun q => fin 1 _ _ _ (Or.inr rfl) (fun c' hc' => ?_)) (fun q => fin 0 _ _ _ (Or.inl rfl) (fun c' hc' => ?_))
      · rw [sj_mx_1 hc' hT2]
        exact ⟨fun _ => rfl, fun w => absurd q.symm w⟩
      · rw [sj_mx_1 hc' hT2]
        exact ⟨fun w => absurd w.symm q, fun _ => rfl⟩
    · rw [sj_fs_up hPj] at hT2
      refine fin 0 _ _ _ (Or.inl rfl) (fun c' hc' => ?_)
      rw [sj_mx_0 hc' hT2]
      exact ⟨fun w => absurd w hne, fun _ => rfl⟩
  · rw [sj_fs_eq hbf] at hc
    exact br_t (sj_mx_0 hc hT) ⟨rfl, I⟩
end
section
/-! welcome -/
section
variable {L D : Nat → Nat} {l d : Nat}
theorem sj_P_10 : sj_P (sj_uN L 10 l) = sj_P L := by
  funext i
  unfold sj_P
  by_cases c : i = 10
  · rw [decide_eq_false (fun z => absurd z.1 (by omega)), decide_eq_false (fun z => absurd z.1 (by omega))]
  · rw [sj_un c]
theorem sj_n10 : ¬ sj_P L 10 = true := fun z => absurd (sj_PI.mp z).1 (by omega)
theorem sj_P_lt {i : Nat} (h : sj_P L i = true) : i ≠ 10 := fun e => sj_n10 (by rw [← e]; exact h)
theorem sj_YP_10 {bl bd : Nat → Int32} (h : sj_YP L D bl bd) : sj_YP (sj_uN L 10 l) (sj_uN D 10 d) bl bd := by
  refine ⟨fun i hi => ?_, fun i hi z => ?_⟩
  · rw [sj_un (show i ≠ 10 by omega)]; exact h.1 i hi
  · rw [sj_un (show i ≠ 10 by omega)] at z ⊢; exact h.2 i hi z
theorem sj_ct_10 : sj_ct (sj_uN L 10 l) 10 = sj_ct L 10 := sj_cg (fun i hi => by
  show (if sj_uN L 10 l i = 0 then 0 else 1) = (if L i = 0 then 0 else 1)
  rw [sj_un (show i ≠ 10 by omega)])
theorem sj_ok_10 {G S : Nat → Bool} : sj_ok L D (sj_P L) G S ↔ sj_ok (sj_uN L 10 l) (sj_uN D 10 d) (sj_P L) G S :=
  ⟨sj_ok_LD (fun i _ z => ⟨sj_un (sj_P_lt z), sj_un (sj_P_lt z)⟩), sj_ok_LD (fun i _ z => ⟨(sj_un (sj_P_lt z)).symm, (sj_un (sj_P_lt z)).symm⟩)⟩
/-- the firm jobs are the same with the new job, which isn't firm -/
theorem sj_fs_10 {fm : Nat → Int32} : sj_fs (upd fm 10 0) (sj_ins (sj_P L) 10) = sj_fs fm (sj_P L) := by
  funext i
  unfold sj_fs sj_ins
  by_cases c : i = 10
  · have e : sj_P L i = false := by
      rw [c]
      have := sj_n10 (L := L)
      simpa using this
    rw [e, c, pk_us]; simp
  · rw [pk_un c, decide_eq_false c, Bool.or_false]
/-- a set of the reference's with the new job counts for X -/
theorem sj_W_ok {G : Nat → Bool} {c s : Nat} (hs : s < 1024) (h : sj_W L D G c s) : sj_ok L D (sj_P1 L) G (sj_ins (sj_ms s) 10) ∧ c < sj_cn (sj_ins (sj_ms s) 10) := by
  have e := sj_cn_ins (x := 10) (by omega) (sj_ms_n10 hs)
  have h3 := h.2.2
  exact ⟨⟨h.1, fun i hi z => sj_insI.mpr (Or.inl (h.2.1 i hi z))⟩, by omega⟩
theorem sj_ok_W {G T : Nat → Bool} {c : Nat} (hG : sj_sub G (sj_P L)) (hT : sj_ok L D (sj_P1 L) G T) (hc : c < sj_cn T) (hmax : ∀ S, sj_ok L D (sj_P L) G S → sj_cn S ≤ c) : ∃ s, s < 1024 ∧ sj_W L D G c s := by
  by_cases h : T 10 = true
  · obtain ⟨s, hs, cg⟩ := sj_mask (S := sj_del T 10) (fun i hi z => by
      have := (sj_delI.mp z).2
      omega)
    have cg2 : ∀ i, i < 11 → (T i = true ↔ sj_ins (sj_ms s) 10 i = true) := by
      intro i hi
      rw [sj_insI, ← cg i hi, sj_delI]
      constructor
      · intro z
        by_cases q : i = 10
        · exact Or.inr q
        · exact Or.inl ⟨z, q⟩
      · intro z
        rcases z with z | z
        · exact z.1
        · rw [z]; exact h
    have e1 := sj_cn_del (x := 10) (by omega) h
    have e2 := sj_cn_cg cg
    refine ⟨s, hs, (sj_gd_cg cg2).mp hT.1, fun i hi z => (cg i hi).mp (sj_delI.mpr ⟨hT.2 i hi z, sj_P_lt (hG i hi z)⟩), by omega⟩
  · have := hmax T ⟨⟨fun i hi z => (sj_insI.mp (hT.1.1 i hi z)).elim id (fun q => absurd (by rw [← q]; exact z) h), hT.1.2⟩, hT.2⟩
    omega
end
/-- the reference's welcome, for a job that may be -/
theorem sj_ywel {post : Int32 → SY → Prop} {bl bd bf bg bj : Nat → Int32} {L D : Nat → Nat} (hY : sj_YP L D bl bd) (hl : L 10 ≤ 50) (hd : D 10 ≤ 200) (hjob : sj_job (nI (L 10)) (nI (D 10)))
    (KN : ∀ bg' : Nat → Int32, (∀ S, ¬ sj_ok L D (sj_P L) (sj_fs bf (sj_P L)) S) → post 0 (bl, bd, bf, bg', bj))
    (K : ∀ (c : Nat) (T : Nat → Bool) (bg' : Nat → Int32), c = sj_cn T → sj_ok L D (sj_P L) (sj_fs bf (sj_P L)) T → (∀ S, sj_ok L D (sj_P L) (sj_fs bf (sj_P L)) S → sj_cn S ≤ c) →
      (∀ (bj' : Nat → Int32) (s : Nat), s < 1024 → sj_W L D (sj_fs bf (sj_P L)) c s → post 1 (bl, bd, bf, bg', bj')) ∧ (∀ bj' : Nat → Int32, (∀ s, s < 1024 → ¬ sj_W L D (sj_fs bf (sj_P L)) c s) → post 0 (bl, bd, bf, bg', bj'))) :
    wpY_welcome post (bl, bd, bf, bg, bj) (nI (L 10)) (nI (D 10)) := by
  unfold wpY_welcome
  dsimp only
  refine sj_yfits (fun _ => br_f (by decide) (sj_yfs hY.1 (fun x hx => sj_ymost (sj_mG_fs hx) hY (fun c bg' hg hc => ?_)))) (fun z => absurd hjob z)
  rcases hc with ⟨rfl, hz⟩ | ⟨T, rfl, h1, h2⟩
  · exact br_t rfl (KN bg' hz)
  · have hcn := sj_cn_le T
    obtain ⟨a, b⟩ := K (sj_cn T) T bg' rfl h1 h2
    exact br_f (sj_m3eq (by omega)) ⟨1025, sj_ywel35 (sj_mG_fs hx) hcn hY hl hd hg a b 1025 0 bj (by omega) (by omega) (fun t ht => by omega) (fun s hs => by omega)⟩
theorem i_vc_welcome {k : Nat} {u : SX} {v : SY} (I : i_Rel k u v) (hk : k + 4 ≤ 2048) (v1 : Int32) (v2 : Int32) : wpX_welcome (fun r u' => wpY_welcome (fun r' v' => r' = r ∧ i_Rel (k + 4) u' v') v v1 v2) u v1 v2 := by
  obtain ⟨jc, rk, ad, ac, tt, al, dl, fm, ra⟩ := u
  obtain ⟨bl, bd, bf, bg, bj⟩ := v
  obtain ⟨L, D, r, m, rfl, rfl, hm, hal, hY, hdl, hbf, hf01, hO, hra⟩ := id I
  have hm10 := sj_ct_le L 10
  have hdlp := sj_dlp hO hdl (fun i hi z => (hY.2 i hi z).2)
  unfold wpX_welcome
  dsimp only
  refine sj_xJob (fun hjob => br_f (by decide) ?_) (fun hjob => br_t rfl (sj_ywel0 hjob ⟨rfl, I⟩))
  obtain ⟨l, d, rfl, rfl, hl1, hl2, hd2⟩ := sj_job_nI hjob
  have ywel : ∀ (post : Int32 → SY → Prop), (∀ bg' : Nat → Int32, (∀ S, ¬ sj_ok (sj_uN L 10 l) (sj_uN D 10 d) (sj_P L) (sj_fs fm (sj_P L)) S) → post 0 (bl, bd, bf, bg', bj)) →
      (∀ (c : Nat) (T : Nat → Bool) (bg' : Nat → Int32), c = sj_cn T → sj_ok (sj_uN L 10 l) (sj_uN D 10 d) (sj_P L) (sj_fs fm (sj_P L)) T → (∀ S, sj_ok (sj_uN L 10 l) (sj_uN D 10 d) (sj_P L) (sj_fs fm (sj_P L)) S → sj_cn S ≤ c) →
        (∀ (bj' : Nat → Int32) (s : Nat), s < 1024 → sj_W (sj_uN L 10 l) (sj_uN D 10 d) (sj_fs fm (sj_P L)) c s → post 1 (bl, bd, bf, bg', bj')) ∧ (∀ bj' : Nat → Int32, (∀ s, s < 1024 → ¬ sj_W (sj_uN L 10 l) (sj_uN D 10 d) (sj_fs fm (sj_P L)) c s) → post 0 (bl, bd, bf, bg', bj'))) →
      wpY_welcome post (bl, bd, bf, bg, bj) (nI l) (nI d) := by
    intro post KN K
    have H := sj_ywel (post := post) (bf := bf) (bg := bg) (bj := bj) (L := sj_uN L 10 l) (D := sj_uN D 10 d) (sj_YP_10 hY) (by rw [sj_us]; exact hl2) (by rw [sj_us]; exact hd2) (by rw [sj_us, sj_us]; exact hjob)
    rw [sj_us, sj_us, sj_P_10, sj_fs_eq hbf] at H
    exact H KN K
  refine sj_xadmit (L := L) (D := D) (P := sj_P L) (r := r) (by omega) hO hal hdlp hra (fun ad1 hT => br_f (by decide) ?_) (fun ad1 ac1 tt1 hT => br_t rfl (ywel _ (fun bg' _ => ⟨rfl, I⟩) (fun c T bg' _ h1 _ => absurd (sj_ok_10.mpr h1) (hT T))))
  refine nm_r (e' := upd al 10 (nI l)) (by rw [sj_nb2 (by omega)]) (nm_r (e' := upd dl 10 (nI d)) (by rw [sj_ns2 (by omega)]) (nm_r (e' := upd fm 10 0) (by rw [sj_n01 (Or.inl rfl)]) ?_))
  have hal' : ∀ i, i < 11 → upd al 10 (nI l) i = nI (sj_uN L 10 l i) ∧ sj_uN L 10 l i ≤ 50 := by
    intro i hi
    by_cases c : i = 10
    · rw [c, pk_us, sj_us]; exact ⟨rfl, hl2⟩
    · rw [pk_un c, sj_un c]; exact hal i hi
  have hrne : ∀ p, p < m → r p ≠ 10 := fun p hp => sj_P_lt ((hO.2.2.2 (r p) (hO.1 p hp)).mpr ⟨p, hp, rfl⟩)
  have hOD : sj_Or (sj_uN D 10 d) (sj_P L) r m := sj_Or_D hO (fun i i' _ _ h1 h2 h3 => by
    rw [sj_un (sj_P_lt h1), sj_un (sj_P_lt h2)]; exact h3)
  refine sj_xins (D := sj_uN D 10 d) (r := r) (i := 10) (by omega) (by omega) hO.1 (fun p hp => ?_) (by rw [pk_us, sj_us]) (by rw [sj_us]; exact hd2) hra (fun a ra1 ha hra1 h1 h2 => ?_)
  · rw [pk_un (hrne p hp), sj_un (hrne p hp)]; exact hdlp p hp
  have hO1 := sj_Or_ins hOD (by omega) sj_n10 ha h1 h2
  have hdl1 : ∀ p, p < m + 1 → upd dl 10 (nI d) (sj_insF r a 10 p) = nI (sj_uN D 10 d (sj_insF r a 10 p)) ∧ sj_uN D 10 d (sj_insF r a 10 p) ≤ 200 := by
    intro p hp
    by_cases c : sj_insF r a 10 p = 10
    · rw [c, pk_us, sj_us]; exact ⟨rfl, hd2⟩
    · rw [pk_un c, sj_un c]
      have z := (hO1.2.2.2 _ (hO1.1 p hp)).mpr ⟨p, hp, rfl⟩
      have z2 := sj_PI.mp ((sj_insI.mp z).elim id (fun q => absurd q c))
      exact ⟨hdl _ z2.1 z2.2, (hY.2 _ z2.1 z2.2).2⟩
  obtain ⟨b, hb, eb⟩ := (hO1.2.2.2 10 (by omega)).mp (sj_insI.mpr (Or.inr rfl))
  have hcn1 := sj_cn_le (bt ad1)
  have hG : sj_sub (sj_fs fm (sj_P L)) (sj_P L) := fun i _ z => (sj_fsI.mp z).1
  have fin : ∀ (z : Int32) (ad2 ac2 tt2 : Int32), (z = 0 ∨ z = 1) →
      ((∃ s, s < 1024 ∧ sj_W (sj_uN L 10 l) (sj_uN D 10 d) (sj_fs fm (sj_P L)) (sj_cn (bt ad1)) s) → z = 1) → ((∀ s, s < 1024 → ¬ sj_W (sj_uN L 10 l) (sj_uN D 10 d) (sj_fs fm (sj_P L)) (sj_cn (bt ad1)) s) → z = 0) →
      wX_welcome_75 (fun r u' => wpY_welcome (fun r' v' => r' = r ∧ i_Rel (k + 4) u' v') (bl, bd, bf, bg, bj) (nI l) (nI d)) z (nI m) (nI (m + 1)) ad2 ac2 tt2 (upd al 10 (nI l)) (upd dl 10 (nI d)) (upd fm 10 0) ra1 := by
    intro z ad2 ac2 tt2 hz hz1 hz0
    unfold wX_welcome_75
    refine sj_xwd (r := sj_insF r a 10) (j := 10) (by omega) (by omega) hO1.1 hra1 ⟨b, by omega, eb⟩ (fun a' ra' ha' ea' hra' => ⟨sj_nar hz, ?_⟩)
    have hrel : ∀ bg' bj' : Nat → Int32, i_Rel (k + 4) (nI m, nI m, ad2, ac2, tt2, upd al 10 (nI l), upd dl 10 (nI d), upd fm 10 0, ra') (bl, bd, bf, bg', bj') := by
      intro bg' bj'
      refine ⟨sj_uN L 10 l, sj_uN D 10 d, sj_delF (sj_insF r a 10) a', m, rfl, rfl, by rw [sj_ct_10]; exact hm, hal', sj_YP_10 hY, fun i hi q => ?_, fun i hi => ?_, fun i hi => ?_, ?_, hra'⟩
      · rw [sj_un (show i ≠ 10 by omega)] at q
        rw [pk_un (show i ≠ 10 by omega), sj_un (show i ≠ 10 by omega)]; exact hdl i hi q
      · rw [pk_un (show i ≠ 10 by omega)]; exact hbf i hi
      · by_cases c : i = 10
        · rw [c, pk_us]; exact Or.inl rfl
        · rw [pk_un c]; exact hf01 i hi
      · rw [sj_P_10]
        refine sj_Or_P (sj_Or_del hO1 ha' ea') (fun i hi => ?_)
        rw [sj_delI, sj_insI]
        exact ⟨fun q => ⟨Or.inl q, sj_P_lt q⟩, fun q => q.1.elim id (fun w => absurd w q.2)⟩
    refine ywel _ (fun bg' hn => absurd (sj_ok_10.mp hT.1) (hn _)) (fun c T bg' ec h1 h2 => ?_)
    have e1 := h2 _ (sj_ok_10.mp hT.1)
    have e2 := (hT.2 T (sj_ok_10.mpr h1)).1
    have e3 : c = sj_cn (bt ad1) := by omega
    subst e3
    exact ⟨fun bj' s hs hw => ⟨(hz1 ⟨s, hs, hw⟩).symm, hrel bg' bj'⟩, fun bj' hw => ⟨(hz0 hw).symm, hrel bg' bj'⟩⟩
  have hmx : ∀ S, sj_ok (sj_uN L 10 l) (sj_uN D 10 d) (sj_P L) (sj_fs fm (sj_P L)) S → sj_cn S ≤ sj_cn (bt ad1) := fun S hS => (hT.2 S (sj_ok_10.mpr hS)).1
  have eP1 : sj_P1 (sj_uN L 10 l) = sj_ins (sj_P L) 10 := by
    show sj_ins (sj_P (sj_uN L 10 l)) 10 = _
    rw [sj_P_10]
  refine sj_xadmit (L := sj_uN L 10 l) (D := sj_uN D 10 d) (P := sj_ins (sj_P L) 10) (r := sj_insF r a 10) (by omega) hO1 hal' hdl1 hra1 (fun ad2 hT2 => br_f (by decide) ?_) (fun ad2 ac2 tt2 hT2 => br_t rfl ?_)
  · rw [sj_fs_10] at hT2
    have hcn2 := sj_cn_le (bt ad2)
    refine pk_le (sj_cn (bt ad2)) (sj_cn (bt ad1)) (fun q => fin 0 _ _ _ (Or.inl rfl) (fun ⟨s, hs, hw⟩ => ?_) (fun _ => rfl)) (fun q => fin 1 _ _ _ (Or.inr rfl) (fun _ => rfl) (fun hn => ?_))
    · have w := sj_W_ok hs hw
      rw [eP1] at w
      have := (hT2.2 _ w.1).1
      omega
    · have w := hT2.1
      rw [← eP1] at w
      obtain ⟨s, hs, hw⟩ := sj_ok_W (L := sj_uN L 10 l) (by rw [sj_P_10]; exact hG) w q (by rw [sj_P_10]; exact hmx)
      exact absurd hw (hn s hs)
  · rw [sj_fs_10] at hT2
    refine fin 0 _ _ _ (Or.inl rfl) (fun ⟨s, hs, hw⟩ => ?_) (fun _ => rfl)
    have w := sj_W_ok hs hw
    rw [eP1] at w
    exact absurd w.1 (hT2 _)
end
