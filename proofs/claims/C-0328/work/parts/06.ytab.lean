/-! the reference: its sums and tables -/
def sj_P (L : Nat → Nat) : Nat → Bool := fun i => decide (i < 10 ∧ L i ≠ 0)
theorem sj_PI {L : Nat → Nat} {i : Nat} : sj_P L i = true ↔ i < 10 ∧ L i ≠ 0 := by simp [sj_P]
abbrev sj_ms (s : Nat) : Nat → Bool := fun i => s.testBit i
def sj_YP (L D : Nat → Nat) (bl bd : Nat → Int32) : Prop := (∀ i, i < 10 → bl i = nI (L i) ∧ L i ≤ 50) ∧ (∀ i, i < 10 → L i ≠ 0 → bd i = nI (D i) ∧ D i ≤ 200)
theorem sj_m3le {n : Nat} (h : n < 2 ^ 31) : ¬ nI n ≤ -3 := by
  intro z
  rw [Int32.le_iff_toInt_le, nI_toInt h, show (-3 : Int32).toInt = -3 by decide] at z
  omega
theorem sj_m3eq {n : Nat} (h : n < 2 ^ 31) : ¬ nI n = -3 := fun z => sj_m3le h (by rw [z]; exact Int32.le_refl _)
theorem sj_ms10 {s : Nat} (hs : s < 1024) {i : Nat} (h : sj_ms s i = true) : i < 10 := by
  apply Classical.byContradiction
  intro c
  have q := sj_tbig hs (show 10 ≤ i by omega)
  have z : s.testBit i = true := h
  rw [q] at z
  cases z
theorem sj_mask {S : Nat → Bool} (h : ∀ i, i < 11 → S i = true → i < 10) : ∃ s : Nat, s < 1024 ∧ ∀ i, i < 11 → (S i = true ↔ sj_ms s i = true) := by
  refine ⟨sj_mk S 10, sj_mk_lt S, fun i hi => ?_⟩
  show S i = true ↔ (sj_mk S 10).testBit i = true
  rw [sj_mk_bit, Bool.and_eq_true, decide_eq_true_eq]
  exact ⟨fun z => ⟨h i hi z, z⟩, fun z => z.2⟩
theorem sj_msne {s : Nat} (hs : s < 1024) (h0 : s ≠ 0) : ∃ i, i < 11 ∧ sj_ms s i = true := by
  apply Classical.byContradiction
  intro c
  apply h0
  apply Nat.eq_of_testBit_eq
  intro i
  rw [Nat.zero_testBit]
  by_cases h : i < 10
  · cases e : s.testBit i
    · rfl
    · exact absurd ⟨i, by omega, e⟩ c
  · exact sj_tbig hs (by omega)
theorem sj_yin {post : Int32 → Prop} {u : SY} {s i : Nat} (hs : s < 1024) (hi : i < 10) (K1 : s.testBit i = true → post 1) (K0 : s.testBit i = false → post 0) : wpY_in post u (nI s) (nI i) := by
  obtain ⟨_, _, _, _, _⟩ := u
  refine ek_c (sj_bit1 (nI s) (i := i) (by omega)) (fun z => K1 ?_) (fun z => K0 ?_)
  · rw [← sj_btN hs]; exact z
  · rw [← sj_btN hs]; simpa using z
theorem sj_yfits {post : Int32 → Prop} {u : SY} {a b : Int32} (K1 : sj_job a b → post 1) (K0 : ¬ sj_job a b → post 0) : wpY_fits post u a b := by
  obtain ⟨_, _, _, _, _⟩ := u
  exact br_c (fun h => K0 fun z => z.1 h) (fun h1 => br_c (fun h => K0 fun z => z.2.1 h) (fun h2 => br_c (fun h => K0 fun z => z.2.2.1 h) (fun h3 => br_c (fun h => K0 fun z => z.2.2.2 h) (fun h4 => K1 ⟨h1, h2, h3, h4⟩))))
section
variable {bl bd bf bg bj : Nat → Int32} {L D : Nat → Nat}
theorem sj_yJob {post : Int32 → Prop} {x : Int32} (hbl : ∀ i, i < 10 → bl i = nI (L i) ∧ L i ≤ 50) (K1 : sj_pl L x → post 1) (K0 : ¬ sj_pl L x → post 0) :
    wpY_isJob post (bl, bd, bf, bg, bj) x := by
  by_cases h : x < 0
  · refine br_t h (K0 ?_)
    rintro ⟨j, hj, e, _⟩
    rw [e] at h
    exact nI_pos (by omega) h
  · obtain ⟨j, hj, rfl⟩ := nI_of h
    by_cases c : j < 10
    · refine br_f h (br_f (nI_nlt (a := 9) (by omega) (by decide)) ⟨vp_in_nI (by omega) (by decide), ?_⟩)
      rw [nI_clamp hj, (hbl j (by omega)).1]
      have hL := (hbl j (by omega)).2
      refine ek_c (sj_le0 (by omega)) (fun z => K0 ?_) (fun z => K1 ⟨j, c, rfl, z⟩)
      rintro ⟨i, hi, e, q⟩
      have := (nI_eq (by omega) (by omega)).mp e
      subst this
      exact q z
    · refine br_f h (br_t (nI_lt (a := 9) (by omega) hj) (K0 ?_))
      rintro ⟨i, hi, e, _⟩
      have := (nI_eq (by omega) (by omega)).mp e
      omega
def sj_ct (L : Nat → Nat) (n : Nat) : Nat := sj_sm (fun i => if L i = 0 then 0 else 1) n
theorem sj_yjobs4 {post : Int32 → Prop} (hbl : ∀ i, i < 10 → bl i = nI (L i) ∧ L i ≤ 50) (K : post (nI (sj_ct L 10))) :
    ∀ n k : Nat, 10 - k < n → k ≤ 10 → wY_jobs_4 post bl bd bf bg bj n (nI (sj_ct L k)) (nI k) := by
  intro n
  induction n with
  | zero => intro k h; omega
  | succ n ih =>
    intro k hn hk
    refine pk_le 10 k (fun h => ?_) (fun h => ?_)
    · have e : k = 10 := by omega
      subst e
      exact K
    · have hL := (hbl k h).2
      rw [nI_clamp (n := k) (by omega), (hbl k h).1]
      refine ⟨vp_in_nI h (by decide), ek_c (sj_le0 (by omega)) (fun z => ?_) (fun z => ?_)⟩
      · have e : sj_ct L k = sj_ct L (k + 1) := by
          show _ = sj_ct L k + (if L k = 0 then 0 else 1)
          rw [if_pos z, Nat.add_zero]
        rw [e]
        exact nm_r (nI_1 k) (ih (k + 1) (by omega) (by omega))
      · have e : sj_ct L k + 1 = sj_ct L (k + 1) := by
          show _ = sj_ct L k + (if L k = 0 then 0 else 1)
          rw [if_neg z]
        rw [nI_1 (sj_ct L k), e]
        exact nm_e (nm_r (nI_1 k) (ih (k + 1) (by omega) (by omega)))
theorem sj_yjobs {post : Int32 → Prop} (hbl : ∀ i, i < 10 → bl i = nI (L i) ∧ L i ≤ 50) (K : post (nI (sj_ct L 10))) : wpY_jobs post (bl, bd, bf, bg, bj) :=
  ⟨11, sj_yjobs4 hbl K 11 0 (by omega) (by omega)⟩
theorem sj_tm10 {s : Nat} (hs : s < 1024) : sj_tm L (sj_ms s) = sj_sm (fun i => if sj_ms s i = true then L i else 0) 10 := by
  show sj_sm (fun i => if sj_ms s i = true then L i else 0) 10 + (if sj_ms s 10 = true then L 10 else 0) = _
  rw [if_neg (fun z => absurd (sj_ms10 hs z) (by omega)), Nat.add_zero]
theorem sj_ytime4 {post : Int32 → Prop} {s : Nat} (hs : s < 1024) (hbl : ∀ i, i < 10 → bl i = nI (L i) ∧ L i ≤ 50) (K : post (nI (sj_tm L (sj_ms s)))) :
    ∀ n k : Nat, 10 - k < n → k ≤ 10 → wY_timeOf_4 post (nI s) bl bd bf bg bj n (nI (sj_sm (fun i => if sj_ms s i = true then L i else 0) k)) (nI k) := by
  intro n
  induction n with
  | zero => intro k h; omega
  | succ n ih =>
    intro k hn hk
    refine pk_le 10 k (fun h => ?_) (fun h => ?_)
    · have e : k = 10 := by omega
      subst e
      rw [← sj_tm10 hs]
      exact K
    · have e1 : sj_sm (fun i => if sj_ms s i = true then L i else 0) (k + 1) = sj_sm (fun i => if sj_ms s i = true then L i else 0) k + (if sj_ms s k = true then L k else 0) := rfl
      refine sj_yin hs h (fun z => br_f (by decide) ⟨vp_in_nI h (by decide), nm_r (e' := nI (sj_sm (fun i => if sj_ms s i = true then L i else 0) (k + 1))) ?_ (nm_r (nI_1 k) (ih (k + 1) (by omega) (by omega)))⟩) (fun z => br_t rfl (nm_r (nI_1 k) ?_))
      · rw [nI_clamp (by omega), (hbl k h).1, nI_add, e1, if_pos z]
      · have e2 := ih (k + 1) (by omega) (by omega)
        rw [e1, if_neg (show ¬ sj_ms s k = true by rw [show sj_ms s k = false from z]; exact Bool.false_ne_true), Nat.add_zero] at e2
        exact e2
theorem sj_ytime {post : Int32 → Prop} {s : Nat} (hs : s < 1024) (hbl : ∀ i, i < 10 → bl i = nI (L i) ∧ L i ≤ 50) (K : post (nI (sj_tm L (sj_ms s)))) : wpY_timeOf post (bl, bd, bf, bg, bj) (nI s) :=
  ⟨11, sj_ytime4 hs hbl K 11 0 (by omega) (by omega)⟩
theorem sj_ysize4 {post : Int32 → Prop} {s : Nat} (hs : s < 1024) (K : post (nI (sj_cn (sj_ms s)))) :
    ∀ n k : Nat, 10 - k < n → k ≤ 10 → wY_sizeOf_4 post (nI s) bl bd bf bg bj n (nI (sj_sm (fun i => if sj_ms s i = true then 1 else 0) k)) (nI k) := by
  intro n
  induction n with
  | zero => intro k h; omega
  | succ n ih =>
    intro k hn hk
    refine pk_le 10 k (fun h => ?_) (fun h => ?_)
    · have e : k = 10 := by omega
      subst e
      have e2 := sj_tm10 (L := fun _ => 1) hs
      try dsimp only at e2
      rw [← e2]
      exact K
    · have e1 : sj_sm (fun i => if sj_ms s i = true then 1 else 0) (k + 1) = sj_sm (fun i => if sj_ms s i = true then 1 else 0) k + (if sj_ms s k = true then 1 else 0) := rfl
      refine sj_yin hs h (fun z => br_f (by decide) (nm_r (e' := nI (sj_sm (fun i => if sj_ms s i = true then 1 else 0) (k + 1))) ?_ (nm_r (nI_1 k) (ih (k + 1) (by omega) (by omega))))) (fun z => br_t rfl (nm_r (nI_1 k) ?_))
      · rw [nI_1 (sj_sm (fun i => if sj_ms s i = true then 1 else 0) k), e1, if_pos z]
      · have e2 := ih (k + 1) (by omega) (by omega)
        rw [e1, if_neg (show ¬ sj_ms s k = true by rw [show sj_ms s k = false from z]; exact Bool.false_ne_true), Nat.add_zero] at e2
        exact e2
theorem sj_ysize {post : Int32 → Prop} {s : Nat} (hs : s < 1024) (K : post (nI (sj_cn (sj_ms s)))) : wpY_sizeOf post (bl, bd, bf, bg, bj) (nI s) :=
  ⟨11, sj_ysize4 hs K 11 0 (by omega) (by omega)⟩
/-- a table of sets: 1 where the set is as asked, 0 elsewhere -/
def sj_tab (Q : Nat → Prop) (b : Nat → Int32) (n : Nat) : Prop := ∀ t, t < n → (b t = 1 ∧ Q t) ∨ (b t = 0 ∧ ¬ Q t)
theorem sj_tab_0 {Q : Nat → Prop} {b : Nat → Int32} {n t : Nat} (h : sj_tab Q b n) (ht : t < n) : b t = 0 ↔ ¬ Q t := by
  rcases h t ht with z | z
  · rw [z.1]; exact ⟨fun q => absurd q (by decide), fun q => absurd z.2 q⟩
  · exact ⟨fun _ => z.2, fun _ => z.1⟩
theorem sj_tab_s {Q : Nat → Prop} {b : Nat → Int32} {n : Nat} {x : Int32} (h : sj_tab Q b n) (hx : (x = 1 ∧ Q n) ∨ (x = 0 ∧ ¬ Q n)) : sj_tab Q (upd b n x) (n + 1) := by
  intro t ht
  by_cases c : t = n
  · subst c; rw [pk_us]; exact hx
  · rw [pk_un c]; exact h t (by omega)
/-- the search for a last job -/
def sj_lst (L D : Nat → Nat) (P S : Nat → Bool) (e : Nat) (Q : Nat → Prop) (i : Nat) : Prop := S i = true ∧ P i = true ∧ e ≤ D i ∧ Q i
theorem sj_yhl8 {post : Int32 → Prop} {s e : Nat} {Q : Nat → Prop} {R : Nat → Prop} (hs : s < 1024) (he : e < 1000) (hY : sj_YP L D bl bd) (hg : sj_tab R bg s)
    (hR : ∀ i t : Nat, i < 10 → sj_ms s i = true → t < s → (∀ j, sj_ms t j = sj_del (sj_ms s) i j) → (R t ↔ Q i))
    (K1 : ∀ i : Nat, i < 10 → sj_lst L D (sj_P L) (sj_ms s) e Q i → post 1) (K0 : (∀ i, i < 10 → ¬ sj_lst L D (sj_P L) (sj_ms s) e Q i) → post 0) :
    ∀ n k : Nat, 10 - k < n → k ≤ 10 → (∀ i, i < k → ¬ sj_lst L D (sj_P L) (sj_ms s) e Q i) → wY_hasLast_8 post (nI s) (nI e) bl bd bf bg bj n (nI k) := by
  intro n
  induction n with
  | zero => intro k h; omega
  | succ n ih =>
    intro k hn hk hI
    refine pk_le 10 k (fun h => ?_) (fun h => ?_)
    · have e : k = 10 := by omega
      subst e
      exact K0 hI
    · have nx : ¬ sj_lst L D (sj_P L) (sj_ms s) e Q k → ∀ x : Int32, x = nI k + 1 → wY_hasLast_8 post (nI s) (nI e) bl bd bf bg bj n x := fun hz => nm_r (nI_1 k) (ih (k + 1) (by omega) (by omega) (by
        intro i hi
        by_cases c : i = k
        · rw [c]; exact hz
        · exact hI i (by omega)))
      obtain ⟨hbk, hLk⟩ := hY.1 k h
      refine sj_yin hs h (fun z => br_f (by decide) ⟨vp_in_nI h (by decide), ?_⟩) (fun z => br_t rfl (nx fun q => ?_))
      · rw [nI_clamp (n := k) (by omega), hbk]
        refine ek_c (sj_le0 (by omega)) (fun c => nx fun q => (sj_PI.mp q.2.1).2 c) (fun c => ⟨vp_in_nI h (by decide), ?_⟩)
        obtain ⟨hdk, hDk⟩ := hY.2 k h c
        rw [hdk]
        refine pk_lt (D k) e (fun d => nx fun q => absurd q.2.2.1 (by omega)) (fun d => ?_)
        obtain ⟨t, ht, et, hz⟩ := sj_clrN hs h z
        rw [et, nI_clamp (n := t) (by omega)]
        refine ⟨vp_in_nI (by omega) (by decide), ek_c (sj_tab_0 hg ht) (fun w => nx fun q => w ((hR k t h z ht hz).mpr q.2.2.2)) (fun w => K1 k h ⟨z, sj_PI.mpr ⟨h, c⟩, d, (hR k t h z ht hz).mp (Classical.byContradiction w)⟩)⟩
      · have z2 : sj_ms s k = true := q.1
        have z3 : s.testBit k = true := z2
        rw [z] at z3
        cases z3
theorem sj_yhl29 {post : Int32 → Prop} {s e : Nat} {Q : Nat → Prop} {R : Nat → Prop} (hs : s < 1024) (he : e < 1000) (hY : sj_YP L D bl bd) (hg : sj_tab R bj s)
    (hR : ∀ i t : Nat, i < 10 → sj_ms s i = true → t < s → (∀ j, sj_ms t j = sj_del (sj_ms s) i j) → (R t ↔ Q i))
    (K1 : ∀ i : Nat, i < 10 → sj_lst L D (sj_P L) (sj_ms s) e Q i → post 1) (K0 : (∀ i, i < 10 → ¬ sj_lst L D (sj_P L) (sj_ms s) e Q i) → post 0) :
    ∀ n k : Nat, 10 - k < n → k ≤ 10 → (∀ i, i < k → ¬ sj_lst L D (sj_P L) (sj_ms s) e Q i) → wY_hasLastWith_29 post (nI s) (nI e) bl bd bf bg bj n (nI k) := by
  intro n
  induction n with
  | zero => intro k h; omega
  | succ n ih =>
    intro k hn hk hI
    refine pk_le 10 k (fun h => ?_) (fun h => ?_)
    · have e : k = 10 := by omega
      subst e
      exact K0 hI
    · have nx : ¬ sj_lst L D (sj_P L) (sj_ms s) e Q k → ∀ x : Int32, x = nI k + 1 → wY_hasLastWith_29 post (nI s) (nI e) bl bd bf bg bj n x := fun hz => nm_r (nI_1 k) (ih (k + 1) (by omega) (by omega) (by
        intro i hi
        by_cases c : i = k
        · rw [c]; exact hz
        · exact hI i (by omega)))
      obtain ⟨hbk, hLk⟩ := hY.1 k h
      refine sj_yin hs h (fun z => br_f (by decide) ⟨vp_in_nI h (by decide), ?_⟩) (fun z => br_t rfl (nx fun q => ?_))
      · rw [nI_clamp (n := k) (by omega), hbk]
        refine ek_c (sj_le0 (by omega)) (fun c => nx fun q => (sj_PI.mp q.2.1).2 c) (fun c => ⟨vp_in_nI h (by decide), ?_⟩)
        obtain ⟨hdk, hDk⟩ := hY.2 k h c
        rw [hdk]
        refine pk_lt (D k) e (fun d => nx fun q => absurd q.2.2.1 (by omega)) (fun d => ?_)
        obtain ⟨t, ht, et, hz⟩ := sj_clrN hs h z
        rw [et, nI_clamp (n := t) (by omega)]
        refine ⟨vp_in_nI (by omega) (by decide), ek_c (sj_tab_0 hg ht) (fun w => nx fun q => w ((hR k t h z ht hz).mpr q.2.2.2)) (fun w => K1 k h ⟨z, sj_PI.mpr ⟨h, c⟩, d, (hR k t h z ht hz).mp (Classical.byContradiction w)⟩)⟩
      · have z2 : sj_ms s k = true := q.1
        have z3 : s.testBit k = true := z2
        rw [z] at z3
        cases z3
/-- hasLast: the set is good -/
abbrev sj_Q (L D : Nat → Nat) (t : Nat) : Prop := sj_gd L D (sj_P L) (sj_ms t)
theorem sj_tmle {s : Nat} (hs : s < 1024) (hbl : ∀ i, i < 10 → bl i = nI (L i) ∧ L i ≤ 50) : sj_tm L (sj_ms s) ≤ 550 := by
  have e : sj_tm L (sj_ms s) = sj_tm (fun i => if i < 10 then L i else 0) (sj_ms s) := sj_tm_L (fun i _ z => by
    show L i = if i < 10 then L i else 0
    rw [if_pos (sj_ms10 hs z)])
  rw [e]
  exact sj_tm_bd (b := 50) (fun i _ => by
    show (if i < 10 then L i else 0) ≤ 50
    by_cases c : i < 10
    · rw [if_pos c]; exact (hbl i c).2
    · rw [if_neg c]; omega)
theorem sj_yhl {post : Int32 → Prop} {s : Nat} (hs : s < 1024) (h0 : s ≠ 0) (hY : sj_YP L D bl bd) (hg : sj_tab (sj_Q L D) bg s)
    (K1 : sj_Q L D s → post 1) (K0 : ¬ sj_Q L D s → post 0) : wpY_hasLast post (bl, bd, bf, bg, bj) (nI s) := by
  have hb := sj_tmle hs hY.1
  have hrec := sj_rec (L := L) (D := D) (P := sj_P L) (sj_msne hs h0)
  unfold wpY_hasLast
  dsimp only
  refine sj_ytime hs hY.1 ⟨11, sj_yhl8 (Q := fun i => sj_gd L D (sj_P L) (sj_del (sj_ms s) i)) hs (by omega) hY hg (fun i t _ _ _ hz => ?_) (fun i hi q => K1 (hrec.mpr ⟨i, by omega, q⟩)) (fun hz => K0 fun q => ?_) 11 0 (by omega) (by omega) (fun i hi => by omega)⟩
  · exact sj_gd_cg (fun j _ => by rw [hz j])
  · obtain ⟨i, hi, w⟩ := hrec.mp q
    exact hz i (sj_ms10 hs w.1) w
theorem sj_yfg9 {post : SY → Prop} (hY : sj_YP L D bl bd) (K : ∀ bg' : Nat → Int32, sj_tab (sj_Q L D) bg' 1024 → post (bl, bd, bf, bg', bj)) :
    ∀ (n k : Nat) (bg : Nat → Int32), 1024 - k < n → 0 < k → k ≤ 1024 → sj_tab (sj_Q L D) bg k → wY_findGood_9 post n (nI k) bl bd bf bg bj := by
  intro n
  induction n with
  | zero => intro k bg h; omega
  | succ n ih =>
    intro k bg hn h0 hk hI
    refine pk_le 1024 k (fun h => ?_) (fun h => ?_)
    · have e : k = 1024 := by omega
      subst e
      exact K bg hI
    · refine sj_yhl h (by omega) hY hI (fun q => ⟨vp_in_nI h (by decide), nm_r (e' := upd bg k 1) (by rw [nI_clamp (by omega), sj_n01 (Or.inr rfl)]) (nm_r (nI_1 k) (ih (k + 1) _ (by omega) (by omega) (by omega) (sj_tab_s hI (Or.inl ⟨rfl, q⟩))))⟩)
        (fun q => ⟨vp_in_nI h (by decide), nm_r (e' := upd bg k 0) (by rw [nI_clamp (by omega), sj_n01 (Or.inl rfl)]) (nm_r (nI_1 k) (ih (k + 1) _ (by omega) (by omega) (by omega) (sj_tab_s hI (Or.inr ⟨rfl, q⟩))))⟩)
theorem sj_Q0 : sj_Q L D 0 := by
  have h : ∀ i, ¬ sj_ms 0 i = true := fun i z => by
    have z' : Nat.testBit 0 i = true := z
    rw [Nat.zero_testBit] at z'
    cases z'
  exact ⟨fun i _ z => absurd z (h i), fun i _ z => absurd z (h i)⟩
theorem sj_yfg {post : SY → Prop} (hY : sj_YP L D bl bd) (K : ∀ bg' : Nat → Int32, sj_tab (sj_Q L D) bg' 1024 → post (bl, bd, bf, bg', bj)) : wpY_findGood post (bl, bd, bf, bg, bj) := by
  refine nm_r (e' := upd bg 0 1) (by rw [sj_n01 (Or.inr rfl)]) ⟨1024, sj_yfg9 hY K 1024 1 _ (by omega) (by omega) (by omega) ?_⟩
  intro t ht
  have e : t = 0 := by omega
  subst e
  rw [pk_us]
  exact Or.inl ⟨rfl, sj_Q0⟩
/-- the set of the firm jobs -/
theorem sj_yfs4 {post : Int32 → Prop} (hbl : ∀ i, i < 10 → bl i = nI (L i) ∧ L i ≤ 50) (K : ∀ x : Int32, (∀ j, j < 32 → bt x j = sj_fs bf (sj_P L) j) → post x) :
    ∀ (n k : Nat) (x : Int32), 10 - k < n → k ≤ 10 → (∀ j, j < 32 → bt x j = (decide (j < k) && sj_fs bf (sj_P L) j)) → wY_firmSet_4 post bl bd bf bg bj n x (nI k) := by
  intro n
  induction n with
  | zero => intro k x h; omega
  | succ n ih =>
    intro k x hn hk hI
    refine pk_le 10 k (fun h => ?_) (fun h => ?_)
    · have e : k = 10 := by omega
      subst e
      refine K x fun j hj => ?_
      rw [hI j hj]
      by_cases c : j < 10
      · rw [decide_eq_true c, Bool.true_and]
      · rw [decide_eq_false c, Bool.false_and]
        unfold sj_fs sj_P
        rw [decide_eq_false (fun z => c z.1), Bool.false_and]
    · have sk : sj_fs bf (sj_P L) k = false → ∀ y : Int32, y = nI k + 1 → wY_firmSet_4 post bl bd bf bg bj n x y := fun hz => nm_r (nI_1 k) (ih (k + 1) x (by omega) (by omega) (by
        intro j hj
        rw [hI j hj]
        by_cases c : j = k
        · rw [c, hz, Bool.and_false, Bool.and_false]
        · rw [show decide (j < k) = decide (j < k + 1) from decide_eq_decide.mpr (by omega)]))
      have hL := (hbl k h).2
      rw [nI_clamp (n := k) (by omega), (hbl k h).1]
      refine ⟨vp_in_nI h (by decide), ek_c (sj_le0 (by omega)) (fun z => sk ?_) (fun z => ⟨vp_in_nI h (by decide), br_c (fun q => sk ?_) (fun q => nm_e (nm_r (nI_1 k) (ih (k + 1) _ (by omega) (by omega) ?_)))⟩)⟩
      · unfold sj_fs sj_P
        rw [decide_eq_false (fun w => w.2 z), Bool.false_and]
      · unfold sj_fs
        rw [decide_eq_true q, Bool.not_true, Bool.and_false]
      · intro j hj
        rw [sj_set x (by omega) hj]
        unfold sj_ins
        rw [hI j hj]
        by_cases c : j = k
        · have e : sj_fs bf (sj_P L) j = true := by
            rw [c]
            exact sj_fsI.mpr ⟨sj_PI.mpr ⟨h, z⟩, q⟩
          rw [e, decide_eq_true c, decide_eq_true (show j < k + 1 by omega), Bool.or_true]; rfl
        · rw [decide_eq_false c, Bool.or_false, show decide (j < k) = decide (j < k + 1) from decide_eq_decide.mpr (by omega)]
theorem sj_yfs {post : Int32 → Prop} (hbl : ∀ i, i < 10 → bl i = nI (L i) ∧ L i ≤ 50) (K : ∀ x : Int32, (∀ j, j < 32 → bt x j = sj_fs bf (sj_P L) j) → post x) : wpY_firmSet post (bl, bd, bf, bg, bj) :=
  ⟨11, sj_yfs4 hbl K 11 0 0 (by omega) (by omega) (fun j _ => by rw [b_0, decide_eq_false (by omega), Bool.false_and])⟩
end
