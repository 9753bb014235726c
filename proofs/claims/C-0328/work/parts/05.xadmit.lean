/-! the class: inTime, feasible, giveUpLongest, admit -/
def sj_at (S : Nat → Bool) (r : Nat → Nat) (k : Nat) : Nat → Bool := fun i => S i && sj_pre r k i
theorem sj_atI {S : Nat → Bool} {r : Nat → Nat} {k i : Nat} : sj_at S r k i = true ↔ S i = true ∧ sj_pre r k i = true := by simp [sj_at]
theorem sj_at_s {S : Nat → Bool} {r : Nat → Nat} {k : Nat} (h : S (r k) = true) : ∀ i, i < 11 → (sj_at S r (k + 1) i = true ↔ sj_ins (sj_at S r k) (r k) i = true) := by
  intro i _
  rw [sj_insI, sj_atI, sj_atI]
  show S i = true ∧ sj_ins (sj_pre r k) (r k) i = true ↔ _
  rw [sj_insI]
  constructor
  · intro z
    exact z.2.elim (fun q => Or.inl ⟨z.1, q⟩) Or.inr
  · intro z
    rcases z with z | z
    · exact ⟨z.1, Or.inl z.2⟩
    · exact ⟨by rw [z]; exact h, Or.inr z⟩
theorem sj_at_n {S : Nat → Bool} {r : Nat → Nat} {k : Nat} (h : S (r k) = false) : ∀ i, i < 11 → (sj_at S r (k + 1) i = true ↔ sj_at S r k i = true) := by
  intro i _
  rw [sj_atI, sj_atI]
  show S i = true ∧ sj_ins (sj_pre r k) (r k) i = true ↔ _
  rw [sj_insI]
  constructor
  · intro z
    rcases z.2 with q | q
    · exact ⟨z.1, q⟩
    · have := z.1
      rw [q, h] at this
      cases this
  · intro z
    exact ⟨z.1, Or.inl z.2⟩
theorem sj_pre_mono {r : Nat → Nat} {k m i : Nat} (h : k ≤ m) (z : sj_pre r k i = true) : sj_pre r m i = true := by
  obtain ⟨p, hp, e⟩ := sj_preI.mp z
  exact sj_preI.mpr ⟨p, by omega, e⟩
section
variable {jc ad ac tt : Int32} {al dl fm ra : Nat → Int32} {L D r : Nat → Nat} {P : Nat → Bool} {m : Nat}
theorem sj_pre_n (h : sj_Or D P r m) {k : Nat} (hk : k < m) : ¬ sj_pre r k (r k) = true := by
  intro z
  obtain ⟨p, hp, e⟩ := sj_preI.mp z
  exact h.2.1 p k hp hk e
theorem sj_pre_d (h : sj_Or D P r m) {k : Nat} (hk : k < m) : ∀ i, i < 11 → sj_pre r k i = true → D i ≤ D (r k) := by
  intro i _ z
  obtain ⟨p, hp, e⟩ := sj_preI.mp z
  rw [← e]
  exact h.2.2.1 p k hp hk
theorem sj_xin4 {post : Int32 → Prop} {x1 : Int32} (hm : m ≤ 11) (hO : sj_Or D P r m) (hal : ∀ i, i < 11 → al i = nI (L i) ∧ L i ≤ 50)
    (hdl : ∀ p, p < m → dl (r p) = nI (D (r p)) ∧ D (r p) ≤ 200) (hra : ∀ p, p < m → ra p = nI (r p))
    (K1 : sj_fe L D (sj_at (bt x1) r m) → post 1) (K0 : ¬ sj_fe L D (sj_at (bt x1) r m) → post 0) :
    ∀ n k : Nat, m - k < n → k ≤ m → sj_fe L D (sj_at (bt x1) r k) → wX_inTime_4 post x1 jc (nI m) ad ac tt al dl fm ra n (nI (sj_tm L (sj_at (bt x1) r k))) (nI k) := by
  intro n
  induction n with
  | zero => intro k h; omega
  | succ n ih =>
    intro k hn hk hf
    refine pk_le m k (fun h => ?_) (fun h => ?_)
    · have e : k = m := by omega
      subst e
      exact K1 hf
    · have hrk := hO.1 k h
      obtain ⟨hdk, hDk⟩ := hdl k h
      obtain ⟨hak, hLk⟩ := hal (r k) hrk
      have hb := sj_tm_bd (L := L) (S := sj_at (bt x1) r k) (b := 50) (fun i hi => (hal i hi).2)
      refine ⟨vp_in_nI (by omega) (by decide), nm_r (e' := nI (r k)) (by rw [nI_clamp (by omega), hra k h]) ?_⟩
      rw [nI_clamp (n := r k) (by omega), hak, hdk]
      refine ek_c (sj_bit0 x1 (by omega)) (fun z => ?_) (fun z => ?_)
      · have cg := sj_at_n (S := bt x1) z
        have e := sj_tm_cg (L := L) cg
        rw [← e]
        exact nm_r (nI_1 k) (ih (k + 1) (by omega) (by omega) (sj_fe_mono (fun i hi q => (cg i hi).mp q) hf))
      · have z1 : bt x1 (r k) = true := by simpa using z
        have cg := sj_at_s (S := bt x1) (r := r) (k := k) z1
        have hn' : ¬ sj_at (bt x1) r k (r k) = true := fun q => sj_pre_n hO h (sj_atI.mp q).2
        have e := (sj_tm_cg (L := L) cg).trans (sj_tm_ins hrk hn')
        have hmax : ∀ i, i < 11 → sj_at (bt x1) r k i = true → D i ≤ D (r k) := fun i hi q => sj_pre_d hO h i hi (sj_atI.mp q).2
        refine ⟨vp_in_nI hrk (by decide), nm_r (e' := nI (sj_tm L (sj_at (bt x1) r (k + 1)))) (by rw [nI_add, e]) ⟨vp_in_nI hrk (by decide), pk_le (sj_tm L (sj_at (bt x1) r (k + 1))) (D (r k)) (fun c => ?_) (fun c => ?_)⟩⟩
        · refine nm_r (nI_1 k) (ih (k + 1) (by omega) (by omega) ?_)
          refine sj_fe_mono (fun i hi q => (cg i hi).mp q) (sj_fe_ins hmax hf ?_)
          rw [← sj_tm_cg (L := L) cg]; exact c
        · refine K0 fun q => ?_
          have q2 : sj_fe L D (sj_at (bt x1) r (k + 1)) := sj_fe_mono (fun i _ w => sj_atI.mpr ⟨(sj_atI.mp w).1, sj_pre_mono h (sj_atI.mp w).2⟩) q
          have q3 := sj_fe_bd (d := D (r k)) q2 (fun i hi w => by
            rcases sj_insI.mp ((cg i hi).mp w) with v | v
            · exact hmax i hi v
            · rw [v]; exact Nat.le_refl _)
          omega
theorem sj_xinTime {post : Int32 → Prop} {x1 : Int32} (hm : m ≤ 11) (hO : sj_Or D P r m) (hal : ∀ i, i < 11 → al i = nI (L i) ∧ L i ≤ 50)
    (hdl : ∀ p, p < m → dl (r p) = nI (D (r p)) ∧ D (r p) ≤ 200) (hra : ∀ p, p < m → ra p = nI (r p))
    (K1 : sj_fe L D (sj_at (bt x1) r m) → post 1) (K0 : ¬ sj_fe L D (sj_at (bt x1) r m) → post 0) : wpX_inTime post (jc, nI m, ad, ac, tt, al, dl, fm, ra) x1 := by
  have h0 : ∀ i, i < 11 → ¬ sj_at (bt x1) r 0 i = true := fun i _ z => by have := (sj_atI.mp z).2; cases this
  have H := sj_xin4 (jc := jc) (ad := ad) (ac := ac) (tt := tt) (fm := fm) hm hO hal hdl hra K1 K0 (m + 1) 0 (by omega) (by omega) (fun j hj z => absurd z (h0 j hj))
  rw [sj_tm_0 h0] at H
  exact ⟨m + 1, H⟩
theorem sj_xfe15 {post : Int32 → Prop} {s : Nat} (hs : s < 1024) (hm : m ≤ 11) (hO : sj_Or D P r m) (hal : ∀ i, i < 11 → al i = nI (L i) ∧ L i ≤ 50)
    (hdl : ∀ p, p < m → dl (r p) = nI (D (r p)) ∧ D (r p) ≤ 200) (hra : ∀ p, p < m → ra p = nI (r p)) (hP : ∀ i, i < 11 → (P i = true ↔ i < 10 ∧ L i ≠ 0))
    (K1 : sj_gd L D P (fun i => s.testBit i) → post 1) (K0 : ¬ sj_gd L D P (fun i => s.testBit i) → post 0) :
    ∀ n k : Nat, 10 - k < n → k ≤ 10 → (∀ i, i < k → s.testBit i = true → L i ≠ 0) → wX_feasible_15 post (nI s) jc (nI m) ad ac tt al dl fm ra n (nI k) := by
  intro n
  induction n with
  | zero => intro k h; omega
  | succ n ih =>
    intro k hn hk hf
    refine pk_le 10 k (fun h => ?_) (fun h => ?_)
    · have e : k = 10 := by omega
      subst e
      have hsub : sj_sub (fun i => s.testBit i) P := by
        intro i hi z
        have hi10 : i < 10 := by
          apply Classical.byContradiction
          intro c
          have q := sj_tbig hs (show 10 ≤ i by omega)
          have z' : s.testBit i = true := z
          rw [q] at z'
          cases z'
        exact (hP i hi).mpr ⟨hi10, hf i hi10 z⟩
      have cg : ∀ i, i < 11 → (sj_at (bt (nI s)) r m i = true ↔ s.testBit i = true) := by
        intro i hi
        rw [sj_atI, sj_btN hs]
        constructor
        · intro z; exact z.1
        · intro z
          exact ⟨z, sj_preI.mpr ((hO.2.2.2 i hi).mp (hsub i hi z))⟩
      refine sj_xinTime hm hO hal hdl hra (fun z => ⟨rfl, K1 ⟨hsub, sj_fe_mono (fun i hi q => (cg i hi).mpr q) z⟩⟩) (fun z => ⟨rfl, K0 fun q => z (sj_fe_mono (fun i hi w => (cg i hi).mp w) q.2)⟩)
    · refine ek_c (sj_bit0 (nI s) (i := k) (by omega)) (fun z => nm_r (nI_1 k) (ih (k + 1) (by omega) (by omega) ?_)) (fun z => ?_)
      · intro i hi q
        by_cases c : i = k
        · rw [sj_btN hs] at z
          rw [c, z] at q
          cases q
        · exact hf i (by omega) q
      · have z1 : s.testBit k = true := by
          rw [sj_btN hs] at z
          simpa using z
        have hLk := (hal k (by omega)).2
        rw [nI_clamp (n := k) (by omega), (hal k (by omega)).1]
        refine ⟨vp_in_nI (by omega) (by decide), ek_c (sj_eq0 (by omega)) (fun c => K0 fun q => ?_) (fun c => nm_r (nI_1 k) (ih (k + 1) (by omega) (by omega) ?_))⟩
        · exact ((hP k (by omega)).mp (q.1 k (by omega) z1)).2 c
        · intro i hi q
          by_cases c2 : i = k
          · rw [c2]; exact c
          · exact hf i (by omega) q
/-! giveUpLongest -/
theorem sj_m1neg : (-1 : Int32) < 0 := by decide
theorem sj_m1nle : ¬ (0 : Int32) ≤ -1 := by decide
/-- what the search has found below k -/
def sj_lg (L : Nat → Nat) (fm : Nat → Int32) (T : Nat → Bool) (k : Nat) (x : Int32) : Prop :=
  (x = -1 ∧ ∀ i, i < k → T i = true → ¬ fm i = 0) ∨ ∃ l : Nat, x = nI l ∧ l < k ∧ T l = true ∧ fm l = 0 ∧ ∀ i, i < k → T i = true → fm i = 0 → L i ≤ L l
theorem sj_lg_skip {fm : Nat → Int32} {T : Nat → Bool} {k : Nat} {x : Int32} (h : sj_lg L fm T k x) (hk : T k = true → ¬ fm k = 0) : sj_lg L fm T (k + 1) x := by
  rcases h with ⟨e, h⟩ | ⟨l, e, hl, h1, h2, h3⟩
  · refine Or.inl ⟨e, fun i hi z => ?_⟩
    by_cases c : i = k
    · rw [c] at z ⊢; exact hk z
    · exact h i (by omega) z
  · refine Or.inr ⟨l, e, by omega, h1, h2, fun i hi z q => ?_⟩
    by_cases c : i = k
    · rw [c] at z q; exact absurd q (hk z)
    · exact h3 i (by omega) z q
theorem sj_xgu4 {post : Int32 → SX → Prop} {rk : Int32} (hal : ∀ i, i < 11 → al i = nI (L i) ∧ L i ≤ 50)
    (K0 : (∀ i, i < 11 → bt ad i = true → ¬ fm i = 0) → post 0 (jc, rk, ad, ac, tt, al, dl, fm, ra))
    (K1 : ∀ l : Nat, l < 11 → bt ad l = true → fm l = 0 → (∀ i, i < 11 → bt ad i = true → fm i = 0 → L i ≤ L l) →
      post 1 (jc, rk, ad &&& (((1 : Int32) <<< (nI l &&& 31)) ^^^ (-1)), ac - 1, tt - nI (L l), al, dl, fm, ra)) :
    ∀ (n k : Nat) (x : Int32), 11 - k < n → k ≤ 11 → sj_lg L fm (bt ad) k x → wX_giveUpLongest_4 post jc rk ad ac tt al dl fm ra n x (nI k) := by
  intro n
  induction n with
  | zero => intro k x h; omega
  | succ n ih =>
    intro k x hn hk hI
    refine pk_le 11 k (fun h => ?_) (fun h => ?_)
    · have e : k = 11 := by omega
      subst e
      rcases hI with ⟨rfl, hz⟩ | ⟨l, rfl, hl, h1, h2, h3⟩
      · exact br_f sj_m1nle (K0 hz)
      · refine br_t (nI_pos' (by omega)) (nm_e (nm_e ⟨vp_in_nI hl (by decide), ?_⟩))
        rw [nI_clamp (n := l) (by omega), (hal l hl).1]
        exact nm_e (K1 l hl h1 h2 h3)
    · have hk31 : k < 2 ^ 31 := by omega
      obtain ⟨hak, hLk⟩ := hal k h
      rw [nI_clamp hk31, hak]
      refine ek_c (sj_bit0 ad (by omega)) (fun z => ?_) (fun z => ⟨vp_in_nI h (by decide), br_c (fun q => ?_) (fun q => ?_)⟩)
      · exact nm_r (nI_1 k) (ih (k + 1) x (by omega) (by omega) (sj_lg_skip hI (fun w => by rw [z] at w; cases w)))
      · have z1 : bt ad k = true := by simpa using z
        rcases hI with ⟨rfl, hz⟩ | ⟨l, rfl, hl, h1, h2, h3⟩
        · refine br_t sj_m1neg (nm_r (nI_1 k) (ih (k + 1) _ (by omega) (by omega) (Or.inr ⟨k, rfl, by omega, z1, q, fun i hi w v => ?_⟩)))
          by_cases c : i = k
          · rw [c]; exact Nat.le_refl _
          · exact absurd v (hz i (by omega) w)
        · have hl50 := (hal l (by omega)).2
          refine br_f (nI_pos (by omega)) ⟨vp_in_nI h (by decide), vp_in_nI (by omega) (by decide), ?_⟩
          rw [nI_clamp (n := l) (by omega), (hal l (by omega)).1]
          refine pk_le (L k) (L l) (fun c => nm_r (nI_1 k) (ih (k + 1) _ (by omega) (by omega) (Or.inr ⟨l, rfl, by omega, h1, h2, fun i hi w v => ?_⟩)))
            (fun c => nm_r (nI_1 k) (ih (k + 1) _ (by omega) (by omega) (Or.inr ⟨k, rfl, by omega, z1, q, fun i hi w v => ?_⟩)))
          · by_cases e : i = k
            · rw [e]; exact c
            · exact h3 i (by omega) w v
          · by_cases e : i = k
            · rw [e]; exact Nat.le_refl _
            · have := h3 i (by omega) w v
              omega
      · exact nm_r (nI_1 k) (ih (k + 1) x (by omega) (by omega) (sj_lg_skip hI (fun _ => q)))
theorem sj_xgu {post : Int32 → SX → Prop} {rk : Int32} (hal : ∀ i, i < 11 → al i = nI (L i) ∧ L i ≤ 50)
    (K0 : (∀ i, i < 11 → bt ad i = true → ¬ fm i = 0) → post 0 (jc, rk, ad, ac, tt, al, dl, fm, ra))
    (K1 : ∀ l : Nat, l < 11 → bt ad l = true → fm l = 0 → (∀ i, i < 11 → bt ad i = true → fm i = 0 → L i ≤ L l) →
      post 1 (jc, rk, ad &&& (((1 : Int32) <<< (nI l &&& 31)) ^^^ (-1)), ac - 1, tt - nI (L l), al, dl, fm, ra)) :
    wpX_giveUpLongest post (jc, rk, ad, ac, tt, al, dl, fm, ra) :=
  ⟨12, sj_xgu4 hal K0 K1 12 0 (-1) (by omega) (by omega) (Or.inl ⟨rfl, fun i hi => by omega⟩)⟩
/-! admit -/
def sj_fs (fm : Nat → Int32) (A : Nat → Bool) : Nat → Bool := fun i => A i && !decide (fm i = 0)
theorem sj_fsI {fm : Nat → Int32} {A : Nat → Bool} {i : Nat} : sj_fs fm A i = true ↔ A i = true ∧ ¬ fm i = 0 := by simp [sj_fs]
/-- within the giving up: the last place x may be late, all before it are in time -/
def sj_iv (L D : Nat → Nat) (fm : Nat → Int32) (A T : Nat → Bool) : Prop := sj_sub T A ∧ sj_sub (sj_fs fm A) T ∧ sj_dm L D A (sj_fs fm A) T
theorem sj_iv_cg {fm : Nat → Int32} {A T T' : Nat → Bool} (h : ∀ i, i < 11 → (T i = true ↔ T' i = true)) (z : sj_iv L D fm A T) : sj_iv L D fm A T' :=
  ⟨fun i hi q => z.1 i hi ((h i hi).mpr q), fun i hi q => (h i hi).mp (z.2.1 i hi q), fun S h1 h2 h3 => by
    obtain ⟨T0, a, b⟩ := z.2.2 S h1 h2 h3
    exact ⟨T0, fun i hi q => (h i hi).mp (a i hi q), b⟩⟩
theorem sj_fe_exit {T : Nat → Bool} {x : Nat} (h : sj_fe L D (sj_del T x)) (ht : sj_tm L T ≤ D x) (hd : ∀ i, i < 11 → T i = true → D i ≤ D x) : sj_fe L D T := by
  by_cases c : T x = true
  · have cg : ∀ i, i < 11 → (sj_ins (sj_del T x) x i = true ↔ T i = true) := by
      intro i _
      rw [sj_insI, sj_delI]
      constructor
      · intro z
        rcases z with z | z
        · exact z.1
        · rw [z]; exact c
      · intro z
        by_cases e : i = x
        · exact Or.inr e
        · exact Or.inl ⟨z, e⟩
    refine sj_fe_mono (fun i hi q => (cg i hi).mpr q) (sj_fe_ins (fun i hi q => hd i hi (sj_delI.mp q).1) h ?_)
    rw [sj_tm_cg cg]; exact ht
  · exact sj_fe_mono (fun i _ q => sj_delI.mpr ⟨q, fun e => c (by rw [← e]; exact q)⟩) h
theorem sj_xad71 {post : Int32 → SX → Prop} {J : Int32 → Int32 → Int32 → Int32 → Int32 → Int32 → (Nat → Int32) → (Nat → Int32) → (Nat → Int32) → (Nat → Int32) → Prop} {A : Nat → Bool} {x k : Nat}
    (hx : x < 11) (hal : ∀ i, i < 11 → al i = nI (L i) ∧ L i ≤ 50) (hdx : dl x = nI (D x)) (hDx : D x ≤ 200) (hd : ∀ i, i < 11 → A i = true → D i ≤ D x)
    (KJ : ∀ ad : Int32, sj_iv L D fm A (bt ad) → sj_fe L D (bt ad) → J (nI (k + 1)) jc (nI m) ad (nI (sj_cn (bt ad))) (nI (sj_tm L (bt ad))) al dl fm ra)
    (K0 : ∀ ad ac tt : Int32, (∀ S, sj_sub S A → sj_fe L D S → sj_sub (sj_fs fm A) S → False) → post 0 (jc, nI m, ad, ac, tt, al, dl, fm, ra)) :
    ∀ (n q : Nat) (ad : Int32), 11 - q < n → sj_cn (bt ad) + q ≤ 11 → sj_iv L D fm A (bt ad) → sj_fe L D (sj_del (bt ad) x) →
      wX_admit_71 post J (nI k) (nI x) n (nI q) jc (nI m) ad (nI (sj_cn (bt ad))) (nI (sj_tm L (bt ad))) al dl fm ra := by
  intro n
  induction n with
  | zero => intro q ad h; omega
  | succ n ih =>
    intro q ad hn hq hI hf
    have hb := sj_tm_bd (L := L) (S := bt ad) (b := 50) (fun i hi => (hal i hi).2)
    have hdT : ∀ i, i < 11 → bt ad i = true → D i ≤ D x := fun i hi z => hd i hi (hI.1 i hi z)
    have out : sj_tm L (bt ad) ≤ D x → ∀ x1 : Int32, x1 = nI k + 1 → J x1 jc (nI m) ad (nI (sj_cn (bt ad))) (nI (sj_tm L (bt ad))) al dl fm ra :=
      fun h => nm_r (nI_1 k) (KJ ad hI (sj_fe_exit hf h hdT))
    refine pk_le 11 q (fun h => ?_) (fun h => ?_)
    · have h0 : sj_cn (bt ad) = 0 := by omega
      have hz : ∀ i, i < 11 → ¬ bt ad i = true := by
        intro i hi z
        have := sj_cn_del hi z
        omega
      exact out (by rw [sj_tm_0 hz]; exact Nat.zero_le _)
    · rw [nI_clamp (n := x) (by omega), hdx]
      refine ⟨vp_in_nI hx (by decide), pk_le (sj_tm L (bt ad)) (D x) out (fun c => ?_)⟩
      refine sj_xgu hal (fun hz => br_t rfl (K0 _ _ _ ?_)) (fun l hl h1 h2 h3 => br_f (by decide) (nm_r (nI_1 q) ?_))
      · exact sj_dm_none hd c (fun i hi z => sj_fsI.mpr ⟨hI.1 i hi z, hz i hi z⟩) hI.2.2
      · have cg : ∀ i, i < 11 → (sj_del (bt ad) l i = true ↔ bt (ad &&& (((1 : Int32) <<< (nI l &&& 31)) ^^^ (-1))) i = true) := by
          intro i hi
          rw [sj_clr ad (by omega) (by omega)]
        have ec := sj_cn_del hl h1
        have et := sj_tm_del (L := L) hl h1
        have c1 := sj_cn_cg cg
        have c2 := sj_tm_cg (L := L) cg
        have hlG : ¬ sj_fs fm A l = true := fun w => (sj_fsI.mp w).2 h2
        have e1 : nI (sj_cn (bt ad)) - 1 = nI (sj_cn (bt (ad &&& (((1 : Int32) <<< (nI l &&& 31)) ^^^ (-1))))) := by
          have : sj_cn (bt ad) = sj_cn (bt (ad &&& (((1 : Int32) <<< (nI l &&& 31)) ^^^ (-1)))) + 1 := by omega
          rw [this, nI_pred]
        have e2 : nI (sj_tm L (bt ad)) - nI (L l) = nI (sj_tm L (bt (ad &&& (((1 : Int32) <<< (nI l &&& 31)) ^^^ (-1))))) := by
          rw [pk_sub (by omega)]
          have : sj_tm L (bt ad) - L l = sj_tm L (bt (ad &&& (((1 : Int32) <<< (nI l &&& 31)) ^^^ (-1)))) := by omega
          rw [this]
        rw [e1, e2]
        refine ih (q + 1) _ (by omega) (by omega) (sj_iv_cg cg ⟨fun i hi w => hI.1 i hi (sj_delI.mp w).1, fun i hi w => sj_delI.mpr ⟨hI.2.1 i hi w, fun e => hlG (by rw [← e]; exact w)⟩, ?_⟩) (sj_fe_mono (fun i hi w => ?_) hf)
        · exact sj_dm_give hl hd c h1 hlG (fun y hy hyT hyG => h3 y hy hyT (Classical.byContradiction fun w => hyG (sj_fsI.mpr ⟨hI.1 y hy hyT, w⟩))) hI.2.2
        · have w1 := sj_delI.mp w
          exact sj_delI.mpr ⟨(sj_delI.mp ((cg i hi).mpr w1.1)).1, w1.2⟩
theorem sj_xad17 {post : Int32 → SX → Prop} (hm : m ≤ 11) (hO : sj_Or D P r m) (hal : ∀ i, i < 11 → al i = nI (L i) ∧ L i ≤ 50)
    (hdl : ∀ p, p < m → dl (r p) = nI (D (r p)) ∧ D (r p) ≤ 200) (hra : ∀ p, p < m → ra p = nI (r p))
    (K1 : ∀ (ad : Int32), sj_best L D P (sj_fs fm P) (bt ad) → post 1 (jc, nI m, ad, nI (sj_cn (bt ad)), nI (sj_tm L (bt ad)), al, dl, fm, ra))
    (K0 : ∀ ad ac tt : Int32, (∀ S, ¬ sj_ok L D P (sj_fs fm P) S) → post 0 (jc, nI m, ad, ac, tt, al, dl, fm, ra)) :
    ∀ (n k : Nat) (ad : Int32), m - k < n → k ≤ m → sj_iv L D fm (sj_pre r k) (bt ad) → sj_fe L D (bt ad) →
      wX_admit_17 post n (nI k) jc (nI m) ad (nI (sj_cn (bt ad))) (nI (sj_tm L (bt ad))) al dl fm ra := by
  intro n
  induction n with
  | zero => intro k ad h; omega
  | succ n ih =>
    intro k ad hn hk hI hf
    have hPp : ∀ i, i < 11 → (P i = true ↔ sj_pre r m i = true) := fun i hi => (hO.2.2.2 i hi).trans sj_preI.symm
    refine pk_le m k (fun h => ?_) (fun h => ?_)
    · have e : k = m := by omega
      subst e
      refine K1 ad ⟨⟨⟨fun i hi z => (hPp i hi).mpr (hI.1 i hi z), hf⟩, fun i hi z => ?_⟩, fun S hS => ?_⟩
      · exact hI.2.1 i hi (sj_fsI.mpr ⟨(hPp i hi).mp (sj_fsI.mp z).1, (sj_fsI.mp z).2⟩)
      · exact sj_dm_fin hI.2.2 S (fun i hi z => (hPp i hi).mp (hS.1.1 i hi z)) hS.1.2 (fun i hi z => hS.2 i hi (sj_fsI.mpr ⟨(hPp i hi).mpr (sj_fsI.mp z).1, (sj_fsI.mp z).2⟩))
    · have hrk := hO.1 k h
      obtain ⟨hdk, hDk⟩ := hdl k h
      obtain ⟨hak, hLk⟩ := hal (r k) hrk
      have hkn := sj_pre_n hO h
      have hTn : ¬ bt ad (r k) = true := fun z => hkn (hI.1 _ hrk z)
      have cg : ∀ i, i < 11 → (sj_ins (bt ad) (r k) i = true ↔ bt (ad ||| ((1 : Int32) <<< (nI (r k) &&& 31))) i = true) := by
        intro i hi
        rw [sj_set ad (by omega) (by omega)]
      have c1 := (sj_cn_cg cg).symm.trans (sj_tm_ins hrk hTn)
      have c2 := (sj_tm_cg (L := L) cg).symm.trans (sj_tm_ins hrk hTn)
      refine ⟨vp_in_nI (by omega) (by decide), nm_r (e' := nI (r k)) (by rw [nI_clamp (by omega), hra k h]) (nm_e (nm_r (e' := nI (sj_cn (bt (ad ||| ((1 : Int32) <<< (nI (r k) &&& 31)))))) (by rw [nI_1]; exact congrArg nI c1.symm) ⟨vp_in_nI hrk (by decide),
        nm_r (e' := nI (sj_tm L (bt (ad ||| ((1 : Int32) <<< (nI (r k) &&& 31)))))) (by rw [nI_clamp (by omega), hak, nI_add]; exact congrArg nI c2.symm) ⟨12, ?_⟩⟩))⟩
      refine sj_xad71 (A := sj_pre r (k + 1)) hrk hal hdk hDk (fun i hi z => ?_) (fun ad' h1 h2 => ih (k + 1) ad' (by omega) (by omega) h1 h2) (fun ad' ac' tt' hz => K0 ad' ac' tt' fun S hS => ?_) 12 0 _ (by omega) ?_ (sj_iv_cg cg ⟨fun i hi z => ?_, fun i hi z => ?_, ?_⟩) ?_
      · rcases sj_insI.mp (show sj_ins (sj_pre r k) (r k) i = true from z) with q | q
        · exact sj_pre_d hO h i hi q
        · rw [q]; exact Nat.le_refl _
      · refine hz (fun i => S i && sj_pre r (k + 1) i) (fun i _ z => ?_) (sj_fe_mono (fun i _ z => ?_) hS.1.2) (fun i hi z => ?_)
        · exact (sj_atI (S := S).mp z).2
        · exact (sj_atI (S := S).mp z).1
        · have z' := sj_fsI.mp z
          exact sj_atI (S := S).mpr ⟨hS.2 i hi (sj_fsI.mpr ⟨(hPp i hi).mpr (sj_pre_mono h z'.1), z'.2⟩), z'.1⟩
      · have := sj_cn_le (bt (ad ||| ((1 : Int32) <<< (nI (r k) &&& 31))))
        omega
      · show sj_ins (sj_pre r k) (r k) i = true
        exact sj_insI.mpr ((sj_insI.mp z).elim (fun q => Or.inl (hI.1 i hi q)) Or.inr)
      · have z' := sj_fsI.mp z
        rcases sj_insI.mp (show sj_ins (sj_pre r k) (r k) i = true from z'.1) with q | q
        · exact sj_insI.mpr (Or.inl (hI.2.1 i hi (sj_fsI.mpr ⟨q, z'.2⟩)))
        · exact sj_insI.mpr (Or.inr q)
      · refine sj_dm_step (G := sj_fs fm (sj_pre r k)) hrk hkn hI.1 (fun i _ z => (sj_fsI.mp z).1) (fun i _ hne => ?_) hI.2.2
        rw [sj_fsI, sj_fsI]
        show sj_ins (sj_pre r k) (r k) i = true ∧ _ ↔ _
        rw [sj_insI]
        constructor
        · intro z
          exact ⟨z.1.elim id (fun q => absurd q hne), z.2⟩
        · intro z
          exact ⟨Or.inl z.1, z.2⟩
      · refine sj_fe_mono (fun i hi z => ?_) hf
        have z' := sj_delI.mp z
        exact (sj_insI.mp ((cg i hi).mpr z'.1)).elim id (fun q => absurd q z'.2)
theorem sj_bt0 (i : Nat) : ¬ bt 0 i = true := by rw [b_0]; exact Bool.false_ne_true
theorem sj_xadmit {post : Int32 → SX → Prop} (hm : m ≤ 11) (hO : sj_Or D P r m) (hal : ∀ i, i < 11 → al i = nI (L i) ∧ L i ≤ 50)
    (hdl : ∀ p, p < m → dl (r p) = nI (D (r p)) ∧ D (r p) ≤ 200) (hra : ∀ p, p < m → ra p = nI (r p))
    (K1 : ∀ (ad : Int32), sj_best L D P (sj_fs fm P) (bt ad) → post 1 (jc, nI m, ad, nI (sj_cn (bt ad)), nI (sj_tm L (bt ad)), al, dl, fm, ra))
    (K0 : ∀ ad ac tt : Int32, (∀ S, ¬ sj_ok L D P (sj_fs fm P) S) → post 0 (jc, nI m, ad, ac, tt, al, dl, fm, ra)) :
    wpX_admit post (jc, nI m, ad, ac, tt, al, dl, fm, ra) := by
  have H := sj_xad17 (fm := fm) hm hO hal hdl hra K1 K0 (m + 1) 0 0 (by omega) (by omega)
    ⟨fun i _ z => absurd z (sj_bt0 i), fun i _ z => (by have := (sj_fsI.mp z).1; cases this), sj_dm_0 (fun i _ z => (by cases z))⟩ (fun j _ z => absurd z (sj_bt0 j))
  rw [sj_tm_0 (fun i _ => sj_bt0 i), show sj_cn (bt 0) = 0 from sj_tm_0 (fun i _ => sj_bt0 i)] at H
  exact ⟨m + 1, H⟩
end
