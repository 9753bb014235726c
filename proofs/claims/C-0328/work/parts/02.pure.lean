/-! the plain law: sets of places, their time and size, feasibility without an order, the greedy choice -/
def sj_sm (f : Nat → Nat) : Nat → Nat
  | 0 => 0
  | n + 1 => sj_sm f n + f n
theorem sj_cg {f g : Nat → Nat} : ∀ {n : Nat}, (∀ i, i < n → f i = g i) → sj_sm f n = sj_sm g n := by
  intro n
  induction n with
  | zero => intro _; rfl
  | succ n ih =>
    intro h
    show sj_sm f n + f n = sj_sm g n + g n
    rw [ih (fun i hi => h i (by omega)), h n (by omega)]
theorem sj_le {f g : Nat → Nat} : ∀ {n : Nat}, (∀ i, i < n → f i ≤ g i) → sj_sm f n ≤ sj_sm g n := by
  intro n
  induction n with
  | zero => intro _; exact Nat.le_refl _
  | succ n ih =>
    intro h
    show sj_sm f n + f n ≤ sj_sm g n + g n
    exact Nat.add_le_add (ih (fun i hi => h i (by omega))) (h n (by omega))
theorem sj_up {f g : Nat → Nat} {x : Nat} (h : ∀ i, i ≠ x → g i = f i) : ∀ {n : Nat}, x < n → sj_sm g n + f x = sj_sm f n + g x := by
  intro n
  induction n with
  | zero => intro hx; omega
  | succ n ih =>
    intro hx
    show sj_sm g n + g n + f x = sj_sm f n + f n + g x
    by_cases e : x = n
    · subst e
      have := sj_cg (n := x) (fun i hi => h i (by omega))
      omega
    · have h1 := ih (by omega)
      have h2 := h n (fun z => e z.symm)
      omega
theorem sj_const : ∀ n : Nat, sj_sm (fun _ => 1) n = n := by
  intro n
  induction n with
  | zero => rfl
  | succ n ih =>
    show sj_sm (fun _ => 1) n + 1 = n + 1
    rw [ih]
theorem sj_zero : ∀ n : Nat, sj_sm (fun _ => 0) n = 0 := by
  intro n
  induction n with
  | zero => rfl
  | succ n ih => exact ih
def sj_tm (L : Nat → Nat) (S : Nat → Bool) : Nat := sj_sm (fun i => if S i = true then L i else 0) 11
abbrev sj_cn (S : Nat → Bool) : Nat := sj_tm (fun _ => 1) S
def sj_ins (S : Nat → Bool) (x : Nat) : Nat → Bool := fun i => S i || decide (i = x)
def sj_del (S : Nat → Bool) (x : Nat) : Nat → Bool := fun i => S i && !decide (i = x)
theorem sj_insI {S : Nat → Bool} {x i : Nat} : sj_ins S x i = true ↔ S i = true ∨ i = x := by simp [sj_ins]
theorem sj_delI {S : Nat → Bool} {x i : Nat} : sj_del S x i = true ↔ S i = true ∧ i ≠ x := by simp [sj_del]
def sj_sub (S T : Nat → Bool) : Prop := ∀ i, i < 11 → S i = true → T i = true
theorem sj_tm_mono {L : Nat → Nat} {S T : Nat → Bool} (h : sj_sub S T) : sj_tm L S ≤ sj_tm L T := by
  apply sj_le
  intro i hi
  by_cases e : S i = true
  · rw [if_pos e, if_pos (h i hi e)]; exact Nat.le_refl _
  · rw [if_neg e]; exact Nat.zero_le _
theorem sj_tm_cg {L : Nat → Nat} {S T : Nat → Bool} (h : ∀ i, i < 11 → (S i = true ↔ T i = true)) : sj_tm L S = sj_tm L T :=
  Nat.le_antisymm (sj_tm_mono fun i hi => (h i hi).mp) (sj_tm_mono fun i hi => (h i hi).mpr)
theorem sj_tm_L {L L' : Nat → Nat} {S : Nat → Bool} (h : ∀ i, i < 11 → S i = true → L i = L' i) : sj_tm L S = sj_tm L' S := by
  apply sj_cg
  intro i hi
  by_cases e : S i = true
  · rw [if_pos e, if_pos e, h i hi e]
  · rw [if_neg e, if_neg e]
theorem sj_tm_0 {L : Nat → Nat} {S : Nat → Bool} (h : ∀ i, i < 11 → ¬ S i = true) : sj_tm L S = 0 := by
  rw [← sj_zero 11]
  apply sj_cg
  intro i hi
  rw [if_neg (h i hi)]
theorem sj_tm_ins {L : Nat → Nat} {S : Nat → Bool} {x : Nat} (hx : x < 11) (h : ¬ S x = true) : sj_tm L (sj_ins S x) = sj_tm L S + L x := by
  have e := sj_up (f := fun i => if S i = true then L i else 0) (g := fun i => if sj_ins S x i = true then L i else 0) (x := x) (by
    intro i hi
    by_cases e : S i = true
    · show (if sj_ins S x i = true then L i else 0) = (if S i = true then L i else 0)
      rw [if_pos e, if_pos (sj_insI.mpr (Or.inl e))]
    · show (if sj_ins S x i = true then L i else 0) = (if S i = true then L i else 0)
      rw [if_neg e, if_neg (fun z => (sj_insI.mp z).elim e hi)]) hx
  rw [if_neg h, if_pos (sj_insI.mpr (Or.inr rfl))] at e
  exact e
theorem sj_tm_del {L : Nat → Nat} {S : Nat → Bool} {x : Nat} (hx : x < 11) (h : S x = true) : sj_tm L (sj_del S x) + L x = sj_tm L S := by
  have e := sj_tm_ins (L := L) (S := sj_del S x) hx (fun z => (sj_delI.mp z).2 rfl)
  rw [← e]
  apply sj_tm_cg
  intro i hi
  rw [sj_insI, sj_delI]
  constructor
  · intro z
    rcases z with z | z
    · exact z.1
    · rw [z]; exact h
  · intro z
    by_cases e : i = x
    · exact Or.inr e
    · exact Or.inl ⟨z, e⟩
theorem sj_cn_mono {S T : Nat → Bool} (h : sj_sub S T) : sj_cn S ≤ sj_cn T := sj_tm_mono h
theorem sj_cn_cg {S T : Nat → Bool} (h : ∀ i, i < 11 → (S i = true ↔ T i = true)) : sj_cn S = sj_cn T := sj_tm_cg h
theorem sj_cn_ins {S : Nat → Bool} {x : Nat} (hx : x < 11) (h : ¬ S x = true) : sj_cn (sj_ins S x) = sj_cn S + 1 := sj_tm_ins hx h
theorem sj_cn_del {S : Nat → Bool} {x : Nat} (hx : x < 11) (h : S x = true) : sj_cn (sj_del S x) + 1 = sj_cn S := sj_tm_del hx h
theorem sj_cn_le (S : Nat → Bool) : sj_cn S ≤ 11 := by
  have h := sj_le (f := fun i => if S i = true then 1 else 0) (g := fun _ => 1) (n := 11) (by
    intro i _
    by_cases e : S i = true
    · show (if S i = true then 1 else 0) ≤ 1
      rw [if_pos e]; exact Nat.le_refl _
    · show (if S i = true then 1 else 0) ≤ 1
      rw [if_neg e]; exact Nat.zero_le _)
  rw [sj_const] at h
  exact h
theorem sj_sm_bd {f : Nat → Nat} {b : Nat} (h : ∀ i, f i ≤ b) : ∀ n : Nat, sj_sm f n ≤ n * b := by
  intro n
  induction n with
  | zero => exact Nat.zero_le _
  | succ n ih =>
    have := h n
    show sj_sm f n + f n ≤ (n + 1) * b
    rw [Nat.succ_mul]
    omega
theorem sj_tm_bd {L : Nat → Nat} {S : Nat → Bool} {b : Nat} (h : ∀ i, i < 11 → L i ≤ b) : sj_tm L S ≤ 11 * b := by
  have h1 := sj_sm_bd (f := fun i => if i < 11 then (if S i = true then L i else 0) else 0) (b := b) (by
    intro i
    show (if i < 11 then (if S i = true then L i else 0) else 0) ≤ b
    by_cases e : i < 11
    · rw [if_pos e]
      by_cases e2 : S i = true
      · rw [if_pos e2]; exact h i e
      · rw [if_neg e2]; exact Nat.zero_le _
    · rw [if_neg e]; exact Nat.zero_le _) 11
  have h2 := sj_cg (f := fun i => if i < 11 then (if S i = true then L i else 0) else 0) (g := fun i => if S i = true then L i else 0) (n := 11) (fun i hi => by
    show (if i < 11 then (if S i = true then L i else 0) else 0) = _
    rw [if_pos hi])
  rw [h2] at h1
  exact h1
/-- feasible, without an order: the time of all jobs of no greater deadline is within each job's deadline -/
def sj_fe (L D : Nat → Nat) (S : Nat → Bool) : Prop := ∀ j, j < 11 → S j = true → sj_tm L (fun i => S i && decide (D i ≤ D j)) ≤ D j
theorem sj_and {a : Bool} {p : Prop} [Decidable p] : (a && decide p) = true ↔ a = true ∧ p := by simp
theorem sj_fe_mono {L D : Nat → Nat} {S T : Nat → Bool} (h : sj_sub S T) (hT : sj_fe L D T) : sj_fe L D S := by
  intro j hj hs
  refine Nat.le_trans (sj_tm_mono ?_) (hT j hj (h j hj hs))
  intro i hi z
  exact sj_and.mpr ⟨h i hi (sj_and.mp z).1, (sj_and.mp z).2⟩
theorem sj_fe_LD {L D L' D' : Nat → Nat} {S : Nat → Bool} (h : ∀ i, i < 11 → S i = true → L' i = L i ∧ D' i = D i) (hS : sj_fe L D S) : sj_fe L' D' S := by
  intro j hj hs
  have e := hS j hj hs
  rw [(h j hj hs).2]
  refine Nat.le_trans (Nat.le_of_eq ?_) e
  rw [sj_tm_L (L' := L) (fun i hi z => (h i hi (sj_and.mp z).1).1)]
  apply sj_tm_cg
  intro i hi
  rw [sj_and, sj_and]
  constructor
  · intro z
    rw [← (h i hi z.1).2]; exact z
  · intro z
    rw [(h i hi z.1).2]; exact z
theorem sj_argmax (D : Nat → Nat) (S : Nat → Bool) : ∀ n : Nat, (∀ i, i < n → ¬ S i = true) ∨ ∃ j, j < n ∧ S j = true ∧ ∀ i, i < n → S i = true → D i ≤ D j := by
  intro n
  induction n with
  | zero => exact Or.inl (fun i hi => by omega)
  | succ n ih =>
    by_cases e : S n = true
    · rcases ih with h | ⟨j, hj, hs, hm⟩
      · refine Or.inr ⟨n, by omega, e, fun i hi hs => ?_⟩
        by_cases q : i = n
        · rw [q]; exact Nat.le_refl _
        · exact absurd hs (h i (by omega))
      · by_cases c : D n ≤ D j
        · refine Or.inr ⟨j, by omega, hs, fun i hi hs' => ?_⟩
          by_cases q : i = n
          · rw [q]; exact c
          · exact hm i (by omega) hs'
        · refine Or.inr ⟨n, by omega, e, fun i hi hs' => ?_⟩
          by_cases q : i = n
          · rw [q]; exact Nat.le_refl _
          · have := hm i (by omega) hs'
            omega
    · rcases ih with h | ⟨j, hj, hs, hm⟩
      · refine Or.inl fun i hi => ?_
        by_cases q : i = n
        · rw [q]; exact e
        · exact h i (by omega)
      · refine Or.inr ⟨j, by omega, hs, fun i hi hs' => ?_⟩
        by_cases q : i = n
        · rw [q] at hs'; exact absurd hs' e
        · exact hm i (by omega) hs'
theorem sj_fe_bd {L D : Nat → Nat} {S : Nat → Bool} {d : Nat} (h : sj_fe L D S) (hd : ∀ i, i < 11 → S i = true → D i ≤ d) : sj_tm L S ≤ d := by
  rcases sj_argmax D S 11 with z | ⟨j, hj, hs, hm⟩
  · rw [sj_tm_0 z]; exact Nat.zero_le _
  · have h1 := h j hj hs
    have h2 : sj_tm L S ≤ sj_tm L (fun i => S i && decide (D i ≤ D j)) := sj_tm_mono fun i hi z => sj_and.mpr ⟨z, hm i hi z⟩
    have h3 := hd j hj hs
    omega
theorem sj_fe_ins {L D : Nat → Nat} {S : Nat → Bool} {x : Nat} (hd : ∀ i, i < 11 → S i = true → D i ≤ D x) (h : sj_fe L D S) (ht : sj_tm L (sj_ins S x) ≤ D x) : sj_fe L D (sj_ins S x) := by
  intro j hj hs
  by_cases c : D x ≤ D j
  · have h2 : sj_tm L (fun i => sj_ins S x i && decide (D i ≤ D j)) ≤ sj_tm L (sj_ins S x) := sj_tm_mono fun i _ z => (sj_and.mp z).1
    omega
  · have hs' : S j = true := by
      rcases sj_insI.mp hs with z | z
      · exact z
      · rw [z] at c; exact absurd (Nat.le_refl _) c
    refine Nat.le_trans (sj_tm_mono ?_) (h j hj hs')
    intro i hi z
    have z' := sj_and.mp z
    rcases sj_insI.mp z'.1 with q | q
    · exact sj_and.mpr ⟨q, z'.2⟩
    · have := z'.2
      rw [q] at this
      exact absurd this c
/-- a set is good: its jobs are there and it is feasible; as the reference finds it, by a last job -/
def sj_gd (L D : Nat → Nat) (P S : Nat → Bool) : Prop := sj_sub S P ∧ sj_fe L D S
theorem sj_rec {L D : Nat → Nat} {P S : Nat → Bool} (hne : ∃ i, i < 11 ∧ S i = true) :
    sj_gd L D P S ↔ ∃ i, i < 11 ∧ S i = true ∧ P i = true ∧ sj_tm L S ≤ D i ∧ sj_gd L D P (sj_del S i) := by
  constructor
  · intro h
    rcases sj_argmax D S 11 with z | ⟨j, hj, hs, hm⟩
    · obtain ⟨i, hi, hs⟩ := hne
      exact absurd hs (z i hi)
    · have hsub : sj_sub (sj_del S j) S := fun i _ z => (sj_delI.mp z).1
      exact ⟨j, hj, hs, h.1 j hj hs, sj_fe_bd h.2 hm, fun i hi z => h.1 i hi (hsub i hi z), sj_fe_mono hsub h.2⟩
  · intro h
    obtain ⟨i, hi, hs, hp, ht, hg⟩ := h
    refine ⟨fun k hk z => ?_, fun j hj z => ?_⟩
    · by_cases e : k = i
      · rw [e]; exact hp
      · exact hg.1 k hk (sj_delI.mpr ⟨z, e⟩)
    · by_cases c : D i ≤ D j
      · have h2 : sj_tm L (fun k => S k && decide (D k ≤ D j)) ≤ sj_tm L S := sj_tm_mono fun k _ q => (sj_and.mp q).1
        omega
      · have hji : j ≠ i := fun e => c (by rw [e]; exact Nat.le_refl _)
        refine Nat.le_trans (sj_tm_mono ?_) (hg.2 j hj (sj_delI.mpr ⟨z, hji⟩))
        intro k hk q
        have q' := sj_and.mp q
        refine sj_and.mpr ⟨sj_delI.mpr ⟨q'.1, fun e => c ?_⟩, q'.2⟩
        rw [← e]; exact q'.2
theorem sj_gd_cg {L D : Nat → Nat} {P S T : Nat → Bool} (h : ∀ i, i < 11 → (S i = true ↔ T i = true)) : sj_gd L D P S ↔ sj_gd L D P T :=
  ⟨fun z => ⟨fun i hi q => z.1 i hi ((h i hi).mpr q), sj_fe_mono (fun i hi q => (h i hi).mpr q) z.2⟩,
   fun z => ⟨fun i hi q => z.1 i hi ((h i hi).mp q), sj_fe_mono (fun i hi q => (h i hi).mp q) z.2⟩⟩
/-- dominance: each feasible set with all of G is matched in size, at no more time, by a part of T with all of G -/
def sj_dm (L D : Nat → Nat) (A G T : Nat → Bool) : Prop :=
  ∀ S : Nat → Bool, sj_sub S A → sj_fe L D S → sj_sub G S → ∃ T' : Nat → Bool, sj_sub T' T ∧ sj_sub G T' ∧ sj_cn T' = sj_cn S ∧ sj_tm L T' ≤ sj_tm L S
theorem sj_dm_0 {L D : Nat → Nat} {A G T : Nat → Bool} (h : ∀ i, i < 11 → ¬ A i = true) : sj_dm L D A G T :=
  fun S hS _ hG => ⟨S, fun i hi z => absurd (hS i hi z) (h i hi), hG, rfl, Nat.le_refl _⟩
theorem sj_dm_step {L D : Nat → Nat} {A G G' T : Nat → Bool} {x : Nat} (hx : x < 11) (hA : ¬ A x = true) (hT : sj_sub T A) (hG : sj_sub G A)
    (hG' : ∀ i, i < 11 → i ≠ x → (G' i = true ↔ G i = true)) (h : sj_dm L D A G T) : sj_dm L D (sj_ins A x) G' (sj_ins T x) := by
  intro S hSA hS hGS
  have hdel : sj_sub (sj_del S x) S := fun i _ z => (sj_delI.mp z).1
  obtain ⟨T0, h1, h2, h3, h4⟩ := h (sj_del S x)
    (fun i hi z => (sj_insI.mp (hSA i hi (sj_delI.mp z).1)).elim id (fun e => absurd e (sj_delI.mp z).2))
    (sj_fe_mono hdel hS)
    (fun i hi z => by
      have hne : i ≠ x := fun e => hA (by rw [← e]; exact hG i hi z)
      exact sj_delI.mpr ⟨hGS i hi ((hG' i hi hne).mpr z), hne⟩)
  have hx0 : ¬ T0 x = true := fun z => hA (hT x hx (h1 x hx z))
  by_cases hs : S x = true
  · have c1 := sj_cn_ins hx hx0
    have c2 := sj_cn_del hx hs
    have t1 := sj_tm_ins (L := L) hx hx0
    have t2 := sj_tm_del (L := L) hx hs
    refine ⟨sj_ins T0 x, fun i hi z => ?_, fun i hi z => ?_, by omega, by omega⟩
    · exact sj_insI.mpr ((sj_insI.mp z).elim (fun q => Or.inl (h1 i hi q)) Or.inr)
    · by_cases e : i = x
      · exact sj_insI.mpr (Or.inr e)
      · exact sj_insI.mpr (Or.inl (h2 i hi ((hG' i hi e).mp z)))
  · have hcg : ∀ i, i < 11 → (sj_del S x i = true ↔ S i = true) := fun i hi => ⟨hdel i hi, fun z => sj_delI.mpr ⟨z, fun e => hs (by rw [← e]; exact z)⟩⟩
    have c2 := sj_cn_cg hcg
    have t2 := sj_tm_cg (L := L) hcg
    refine ⟨T0, fun i hi z => sj_insI.mpr (Or.inl (h1 i hi z)), fun i hi z => ?_, by omega, by omega⟩
    have e : i ≠ x := fun e => hs (by rw [← e]; exact hGS i hi z)
    exact h2 i hi ((hG' i hi e).mp z)
theorem sj_dm_give {L D : Nat → Nat} {A G T : Nat → Bool} {l d : Nat} (hl : l < 11) (hd : ∀ i, i < 11 → A i = true → D i ≤ d)
    (hlt : d < sj_tm L T) (hlT : T l = true) (hlG : ¬ G l = true) (hmax : ∀ y, y < 11 → T y = true → ¬ G y = true → L y ≤ L l)
    (h : sj_dm L D A G T) : sj_dm L D A G (sj_del T l) := by
  intro S hSA hS hGS
  obtain ⟨T0, h1, h2, h3, h4⟩ := h S hSA hS hGS
  have hb : sj_tm L S ≤ d := sj_fe_bd hS (fun i hi z => hd i hi (hSA i hi z))
  by_cases hl0 : T0 l = true
  · have hy : ∃ y, y < 11 ∧ T y = true ∧ ¬ T0 y = true := by
      apply Classical.byContradiction
      intro hne
      have := sj_tm_mono (L := L) (S := T) (T := T0) (fun i hi z => Classical.byContradiction fun q => hne ⟨i, hi, z, q⟩)
      omega
    obtain ⟨y, hy, hyT, hy0⟩ := hy
    have hyl : y ≠ l := fun e => hy0 (by rw [e]; exact hl0)
    have hyG : ¬ G y = true := fun g => hy0 (h2 y hy g)
    have hyd : ¬ sj_del T0 l y = true := fun z => hy0 (sj_delI.mp z).1
    have c1 := sj_cn_ins hy hyd
    have c2 := sj_cn_del hl hl0
    have t1 := sj_tm_ins (L := L) hy hyd
    have t2 := sj_tm_del (L := L) hl hl0
    have hm := hmax y hy hyT hyG
    refine ⟨sj_ins (sj_del T0 l) y, fun i hi z => ?_, fun i hi z => ?_, by omega, by omega⟩
    · rcases sj_insI.mp z with q | q
      · exact sj_delI.mpr ⟨h1 i hi (sj_delI.mp q).1, (sj_delI.mp q).2⟩
      · rw [q]; exact sj_delI.mpr ⟨hyT, hyl⟩
    · exact sj_insI.mpr (Or.inl (sj_delI.mpr ⟨h2 i hi z, fun e => hlG (by rw [← e]; exact z)⟩))
  · exact ⟨T0, fun i hi z => sj_delI.mpr ⟨h1 i hi z, fun e => hl0 (by rw [← e]; exact z)⟩, h2, h3, h4⟩
theorem sj_dm_none {L D : Nat → Nat} {A G T : Nat → Bool} {d : Nat} (hd : ∀ i, i < 11 → A i = true → D i ≤ d)
    (hlt : d < sj_tm L T) (hall : sj_sub T G) (h : sj_dm L D A G T) (S : Nat → Bool) (hSA : sj_sub S A) (hS : sj_fe L D S) (hGS : sj_sub G S) : False := by
  obtain ⟨T0, h1, h2, h3, h4⟩ := h S hSA hS hGS
  have hb : sj_tm L S ≤ d := sj_fe_bd hS (fun i hi z => hd i hi (hSA i hi z))
  have := sj_tm_mono (L := L) (S := T) (T := T0) (fun i hi z => h2 i hi (hall i hi z))
  omega
theorem sj_dm_fin {L D : Nat → Nat} {A G T : Nat → Bool} (h : sj_dm L D A G T) (S : Nat → Bool) (hSA : sj_sub S A) (hS : sj_fe L D S) (hGS : sj_sub G S) :
    sj_cn S ≤ sj_cn T ∧ (sj_cn S = sj_cn T → sj_tm L T ≤ sj_tm L S) := by
  obtain ⟨T0, h1, h2, h3, h4⟩ := h S hSA hS hGS
  have hc := sj_cn_mono h1
  refine ⟨by omega, fun e => ?_⟩
  have hT : sj_sub T T0 := by
    intro y hy hyT
    apply Classical.byContradiction
    intro hn
    have c := sj_cn_del hy hyT
    have c2 := sj_cn_mono (S := T0) (T := sj_del T y) (fun i hi z => sj_delI.mpr ⟨h1 i hi z, fun e => hn (by rw [← e]; exact z)⟩)
    omega
  have := sj_tm_mono (L := L) hT
  omega
/-- the sets that count, and the best of them -/
def sj_ok (L D : Nat → Nat) (P G S : Nat → Bool) : Prop := sj_gd L D P S ∧ sj_sub G S
def sj_best (L D : Nat → Nat) (P G T : Nat → Bool) : Prop := sj_ok L D P G T ∧ ∀ S, sj_ok L D P G S → sj_cn S ≤ sj_cn T ∧ (sj_cn S = sj_cn T → sj_tm L T ≤ sj_tm L S)
theorem sj_ok_cg {L D : Nat → Nat} {P G S T : Nat → Bool} (h : ∀ i, i < 11 → (S i = true ↔ T i = true)) : sj_ok L D P G S → sj_ok L D P G T :=
  fun z => ⟨(sj_gd_cg h).mp z.1, fun i hi q => (h i hi).mp (z.2 i hi q)⟩
theorem sj_ok_PG {L D : Nat → Nat} {P G P' G' S : Nat → Bool} (hP : sj_sub P P') (hG : sj_sub G' G) : sj_ok L D P G S → sj_ok L D P' G' S :=
  fun z => ⟨⟨fun i hi q => hP i hi (z.1.1 i hi q), z.1.2⟩, fun i hi q => z.2 i hi (hG i hi q)⟩
theorem sj_ok_LD {L D L' D' : Nat → Nat} {P G S : Nat → Bool} (h : ∀ i, i < 11 → P i = true → L' i = L i ∧ D' i = D i) : sj_ok L D P G S → sj_ok L' D' P G S :=
  fun z => ⟨⟨z.1.1, sj_fe_LD (fun i hi q => h i hi (z.1.1 i hi q)) z.1.2⟩, z.2⟩
/-! the order of the places -/
def sj_Or (D : Nat → Nat) (P : Nat → Bool) (r : Nat → Nat) (m : Nat) : Prop :=
  (∀ p, p < m → r p < 11) ∧ (∀ p q, p < q → q < m → r p ≠ r q) ∧ (∀ p q, p < q → q < m → D (r p) ≤ D (r q)) ∧ (∀ i, i < 11 → (P i = true ↔ ∃ p, p < m ∧ r p = i))
def sj_insF (r : Nat → Nat) (a i : Nat) : Nat → Nat := fun p => if p < a then r p else if p = a then i else r (p - 1)
def sj_delF (r : Nat → Nat) (a : Nat) : Nat → Nat := fun p => if p < a then r p else r (p + 1)
theorem sj_insF_1 {r : Nat → Nat} {a i p : Nat} (h : p < a) : sj_insF r a i p = r p := if_pos h
theorem sj_insF_2 {r : Nat → Nat} {a i : Nat} : sj_insF r a i a = i := by
  show (if a < a then r a else if a = a then i else r (a - 1)) = i
  rw [if_neg (by omega), if_pos rfl]
theorem sj_insF_3 {r : Nat → Nat} {a i p : Nat} (h : a < p) : sj_insF r a i p = r (p - 1) := by
  show (if p < a then r p else if p = a then i else r (p - 1)) = r (p - 1)
  rw [if_neg (by omega), if_neg (by omega)]
theorem sj_delF_1 {r : Nat → Nat} {a p : Nat} (h : p < a) : sj_delF r a p = r p := if_pos h
theorem sj_delF_2 {r : Nat → Nat} {a p : Nat} (h : a ≤ p) : sj_delF r a p = r (p + 1) := if_neg (by omega)
theorem sj_Or_D {D D' : Nat → Nat} {P : Nat → Bool} {r : Nat → Nat} {m : Nat} (h : sj_Or D P r m)
    (hd : ∀ i j, i < 11 → j < 11 → P i = true → P j = true → D i ≤ D j → D' i ≤ D' j) : sj_Or D' P r m :=
  ⟨h.1, h.2.1, fun p q hpq hq => hd _ _ (h.1 p (by omega)) (h.1 q hq) ((h.2.2.2 _ (h.1 p (by omega))).mpr ⟨p, by omega, rfl⟩) ((h.2.2.2 _ (h.1 q hq)).mpr ⟨q, hq, rfl⟩) (h.2.2.1 p q hpq hq), h.2.2.2⟩
theorem sj_Or_P {D : Nat → Nat} {P P' : Nat → Bool} {r : Nat → Nat} {m : Nat} (h : sj_Or D P r m) (hp : ∀ i, i < 11 → (P' i = true ↔ P i = true)) : sj_Or D P' r m :=
  ⟨h.1, h.2.1, h.2.2.1, fun i hi => (hp i hi).trans (h.2.2.2 i hi)⟩
theorem sj_Or_ins {D : Nat → Nat} {P : Nat → Bool} {r : Nat → Nat} {m a i : Nat} (h : sj_Or D P r m) (hi : i < 11) (hP : ¬ P i = true) (ha : a ≤ m)
    (h1 : 0 < a → D (r (a - 1)) ≤ D i) (h2 : ∀ p, a ≤ p → p < m → D i < D (r p)) : sj_Or D (sj_ins P i) (sj_insF r a i) (m + 1) := by
  obtain ⟨hr, hj, hs, hp⟩ := h
  have hn : ∀ p, p < m → r p ≠ i := fun p hpm e => hP ((hp i hi).mpr ⟨p, hpm, e⟩)
  have hle : ∀ p, p < a → D (r p) ≤ D i := by
    intro p hpa
    have z := h1 (by omega)
    by_cases e : p = a - 1
    · rw [e]; exact z
    · exact Nat.le_trans (hs p (a - 1) (by omega) (by omega)) z
  refine ⟨fun p hpm => ?_, fun p q hpq hq => ?_, fun p q hpq hq => ?_, fun k hk => ?_⟩
  · rcases Nat.lt_trichotomy p a with c | c | c
    · rw [sj_insF_1 c]; exact hr p (by omega)
    · rw [c, sj_insF_2]; exact hi
    · rw [sj_insF_3 c]; exact hr _ (by omega)
  · rcases Nat.lt_trichotomy p a with c | c | c
    · rw [sj_insF_1 c]
      rcases Nat.lt_trichotomy q a with d | d | d
      · rw [sj_insF_1 d]; exact hj p q hpq (by omega)
      · rw [d, sj_insF_2]; exact hn p (by omega)
      · rw [sj_insF_3 d]; exact hj p (q - 1) (by omega) (by omega)
    · subst c
      rw [sj_insF_2, sj_insF_3 hpq]
      exact fun e => hn _ (by omega) e.symm
    · rw [sj_insF_3 c, sj_insF_3 (by omega)]
      exact hj _ _ (by omega) (by omega)
  · rcases Nat.lt_trichotomy p a with c | c | c
    · rw [sj_insF_1 c]
      rcases Nat.lt_trichotomy q a with d | d | d
      · rw [sj_insF_1 d]; exact hs p q hpq (by omega)
      · rw [d, sj_insF_2]; exact hle p c
      · rw [sj_insF_3 d]; exact hs p (q - 1) (by omega) (by omega)
    · subst c
      rw [sj_insF_2, sj_insF_3 hpq]
      exact Nat.le_of_lt (h2 _ (by omega) (by omega))
    · rw [sj_insF_3 c, sj_insF_3 (by omega)]
      exact hs _ _ (by omega) (by omega)
  · rw [sj_insI, hp k hk]
    constructor
    · intro z
      rcases z with ⟨p, hpm, e⟩ | e
      · by_cases c : p < a
        · exact ⟨p, by omega, by rw [sj_insF_1 c]; exact e⟩
        · exact ⟨p + 1, by omega, by rw [sj_insF_3 (by omega), Nat.add_sub_cancel]; exact e⟩
      · exact ⟨a, by omega, by rw [sj_insF_2]; exact e.symm⟩
    · intro ⟨p, hpm, e⟩
      rcases Nat.lt_trichotomy p a with c | c | c
      · rw [sj_insF_1 c] at e; exact Or.inl ⟨p, by omega, e⟩
      · rw [c, sj_insF_2] at e; exact Or.inr e.symm
      · rw [sj_insF_3 c] at e; exact Or.inl ⟨p - 1, by omega, e⟩
theorem sj_Or_del {D : Nat → Nat} {P : Nat → Bool} {r : Nat → Nat} {m a i : Nat} (h : sj_Or D P r (m + 1)) (ha : a ≤ m) (he : r a = i) : sj_Or D (sj_del P i) (sj_delF r a) m := by
  obtain ⟨hr, hj, hs, hp⟩ := h
  refine ⟨fun p hpm => ?_, fun p q hpq hq => ?_, fun p q hpq hq => ?_, fun k hk => ?_⟩
  · by_cases c : p < a
    · rw [sj_delF_1 c]; exact hr p (by omega)
    · rw [sj_delF_2 (by omega)]; exact hr _ (by omega)
  · by_cases c : p < a
    · rw [sj_delF_1 c]
      by_cases d : q < a
      · rw [sj_delF_1 d]; exact hj p q hpq (by omega)
      · rw [sj_delF_2 (by omega)]; exact hj p (q + 1) (by omega) (by omega)
    · rw [sj_delF_2 (by omega), sj_delF_2 (by omega)]
      exact hj _ _ (by omega) (by omega)
  · by_cases c : p < a
    · rw [sj_delF_1 c]
      by_cases d : q < a
      · rw [sj_delF_1 d]; exact hs p q hpq (by omega)
      · rw [sj_delF_2 (by omega)]; exact hs p (q + 1) (by omega) (by omega)
    · rw [sj_delF_2 (by omega), sj_delF_2 (by omega)]
      exact hs _ _ (by omega) (by omega)
  · rw [sj_delI, hp k hk]
    constructor
    · intro ⟨⟨p, hpm, e⟩, hne⟩
      rcases Nat.lt_trichotomy p a with c | c | c
      · exact ⟨p, by omega, by rw [sj_delF_1 c]; exact e⟩
      · exact absurd (by rw [← e, c]; exact he) hne
      · exact ⟨p - 1, by omega, by rw [sj_delF_2 (by omega), show p - 1 + 1 = p by omega]; exact e⟩
    · intro ⟨p, hpm, e⟩
      by_cases c : p < a
      · rw [sj_delF_1 c] at e
        refine ⟨⟨p, by omega, e⟩, fun z => hj p a c (by omega) ?_⟩
        rw [e, he]; exact z
      · rw [sj_delF_2 (by omega)] at e
        refine ⟨⟨p + 1, by omega, e⟩, fun z => hj a (p + 1) (by omega) (by omega) ?_⟩
        rw [e, he]; exact z.symm
/-! prefixes of the order -/
def sj_pre (r : Nat → Nat) : Nat → Nat → Bool
  | 0 => fun _ => false
  | k + 1 => sj_ins (sj_pre r k) (r k)
theorem sj_preI {r : Nat → Nat} {i : Nat} : ∀ {k : Nat}, sj_pre r k i = true ↔ ∃ p, p < k ∧ r p = i := by
  intro k
  induction k with
  | zero => exact ⟨fun z => (by cases z), fun ⟨p, hp, _⟩ => (by omega)⟩
  | succ k ih =>
    show sj_ins (sj_pre r k) (r k) i = true ↔ _
    rw [sj_insI, ih]
    constructor
    · intro z
      rcases z with ⟨p, hp, e⟩ | e
      · exact ⟨p, by omega, e⟩
      · exact ⟨k, by omega, e.symm⟩
    · intro ⟨p, hp, e⟩
      by_cases c : p = k
      · rw [c] at e; exact Or.inr e.symm
      · exact Or.inl ⟨p, by omega, e⟩
