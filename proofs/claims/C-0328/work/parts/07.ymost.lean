/-! the reference: the greatest number, the least time, a welcome job -/
section
variable {bl bd bf bg bj : Nat → Int32} {L D : Nat → Nat}
/-- a mask within the ten places, and the set that it means -/
def sj_mG (x : Int32) (G : Nat → Bool) : Prop := (∀ j, j < 11 → bt x j = G j) ∧ ∀ j, 10 ≤ j → j < 32 → bt x j = false
theorem sj_mG_fs {x : Int32} (h : ∀ j, j < 32 → bt x j = sj_fs bf (sj_P L) j) : sj_mG x (sj_fs bf (sj_P L)) := by
  refine ⟨fun j hj => h j (by omega), fun j hj hj2 => ?_⟩
  rw [h j hj2]
  unfold sj_fs sj_P
  rw [decide_eq_false (fun z => absurd z.1 (by omega)), Bool.false_and]
theorem sj_mG_ins {x : Int32} {G : Nat → Bool} {i : Nat} (hi : i < 10) (h : sj_mG x G) : sj_mG (x ||| ((1 : Int32) <<< (nI i &&& 31))) (sj_ins G i) := by
  refine ⟨fun j hj => ?_, fun j hj hj2 => ?_⟩
  · rw [sj_set x (by omega) (by omega)]
    unfold sj_ins
    rw [h.1 j hj]
  · rw [sj_set x (by omega) hj2]
    unfold sj_ins
    rw [h.2 j hj hj2, decide_eq_false (by omega)]
    rfl
theorem sj_mG_sub {x : Int32} {G : Nat → Bool} (h : sj_mG x G) {s : Nat} (hs : s < 1024) : (x &&& (nI s ^^^ (-1))) = 0 ↔ sj_sub G (sj_ms s) := by
  rw [sj_subN hs h.2]
  exact ⟨fun z i hi q => z i hi (by rw [h.1 i hi]; exact q), fun z i hi q => z i hi (by rw [← h.1 i hi]; exact q)⟩
abbrev sj_O (L D : Nat → Nat) (G : Nat → Bool) (s : Nat) : Prop := sj_ok L D (sj_P L) G (sj_ms s)
theorem sj_ok_mask {G S : Nat → Bool} (h : sj_ok L D (sj_P L) G S) : ∃ s : Nat, s < 1024 ∧ sj_O L D G s ∧ sj_cn (sj_ms s) = sj_cn S ∧ sj_tm L (sj_ms s) = sj_tm L S := by
  obtain ⟨s, hs, cg⟩ := sj_mask (S := S) (fun i hi z => (sj_PI.mp (h.1.1 i hi z)).1)
  exact ⟨s, hs, sj_ok_cg cg h, (sj_tm_cg cg).symm, (sj_tm_cg cg).symm⟩
def sj_mx (L D : Nat → Nat) (P G : Nat → Bool) (c : Int32) : Prop :=
  (c = -3 ∧ ∀ S, ¬ sj_ok L D P G S) ∨ ∃ T, c = nI (sj_cn T) ∧ sj_ok L D P G T ∧ ∀ S, sj_ok L D P G S → sj_cn S ≤ sj_cn T
def sj_mxk (L D : Nat → Nat) (G : Nat → Bool) (k : Nat) (c : Int32) : Prop :=
  (c = -3 ∧ ∀ s, s < k → ¬ sj_O L D G s) ∨ ∃ t, t < k ∧ c = nI (sj_cn (sj_ms t)) ∧ sj_O L D G t ∧ ∀ s, s < k → sj_O L D G s → sj_cn (sj_ms s) ≤ sj_cn (sj_ms t)
theorem sj_mxk_skip {G : Nat → Bool} {k : Nat} {c : Int32} (h : sj_mxk L D G k c) (hk : ¬ sj_O L D G k) : sj_mxk L D G (k + 1) c := by
  rcases h with ⟨e, h⟩ | ⟨t, ht, e, h1, h2⟩
  · refine Or.inl ⟨e, fun s hs z => ?_⟩
    by_cases q : s = k
    · rw [q] at z; exact hk z
    · exact h s (by omega) z
  · refine Or.inr ⟨t, by omega, e, h1, fun s hs z => ?_⟩
    by_cases q : s = k
    · rw [q] at z; exact absurd z hk
    · exact h2 s (by omega) z
theorem sj_mxk_end {G : Nat → Bool} {c : Int32} (h : sj_mxk L D G 1024 c) : sj_mx L D (sj_P L) G c := by
  rcases h with ⟨e, h⟩ | ⟨t, ht, e, h1, h2⟩
  · refine Or.inl ⟨e, fun S z => ?_⟩
    obtain ⟨s, hs, ho, _, _⟩ := sj_ok_mask z
    exact h s hs ho
  · refine Or.inr ⟨sj_ms t, e, h1, fun S z => ?_⟩
    obtain ⟨s, hs, ho, ec, _⟩ := sj_ok_mask z
    have := h2 s hs ho
    omega
theorem sj_ymost9 {post : Int32 → SY → Prop} {x : Int32} {G : Nat → Bool} (hx : sj_mG x G) (hg : sj_tab (sj_Q L D) bg 1024)
    (K : ∀ c : Int32, sj_mx L D (sj_P L) G c → post c (bl, bd, bf, bg, bj)) :
    ∀ (n k : Nat) (c : Int32), 1024 - k < n → k ≤ 1024 → sj_mxk L D G k c → wY_most_9 post x bl bd bf bg bj n c (nI k) := by
  intro n
  induction n with
  | zero => intro k c h; omega
  | succ n ih =>
    intro k c hn hk hI
    refine pk_le 1024 k (fun h => ?_) (fun h => ?_)
    · have e : k = 1024 := by omega
      subst e
      exact K c (sj_mxk_end hI)
    · rw [nI_clamp (n := k) (by omega)]
      have sk : ¬ sj_O L D G k → ∀ y : Int32, y = nI k + 1 → wY_most_9 post x bl bd bf bg bj n c y := fun hz => nm_r (nI_1 k) (ih (k + 1) c (by omega) (by omega) (sj_mxk_skip hI hz))
      refine ⟨vp_in_nI h (by decide), ek_c (sj_tab_0 hg h) (fun z => sk fun q => z q.1) (fun z => ek_c (sj_mG_sub hx h) (fun w => ?_) (fun w => sk fun q => w q.2))⟩
      have hok : sj_O L D G k := ⟨Classical.byContradiction z, w⟩
      have hc := sj_cn_le (sj_ms k)
      refine sj_ysize h ?_
      rcases hI with ⟨rfl, hz⟩ | ⟨t, ht, rfl, h1, h2⟩
      · refine br_f (sj_m3le (by omega)) (nm_r (nI_1 k) (ih (k + 1) _ (by omega) (by omega) (Or.inr ⟨k, by omega, rfl, hok, fun s hs q => ?_⟩)))
        by_cases e : s = k
        · rw [e]; exact Nat.le_refl _
        · exact absurd q (hz s (by omega))
      · have hc2 := sj_cn_le (sj_ms t)
        refine pk_le (sj_cn (sj_ms k)) (sj_cn (sj_ms t)) (fun d => nm_r (nI_1 k) (ih (k + 1) _ (by omega) (by omega) (Or.inr ⟨t, by omega, rfl, h1, fun s hs q => ?_⟩)))
          (fun d => nm_r (nI_1 k) (ih (k + 1) _ (by omega) (by omega) (Or.inr ⟨k, by omega, rfl, hok, fun s hs q => ?_⟩)))
        · by_cases e : s = k
          · rw [e]; exact d
          · exact h2 s (by omega) q
        · by_cases e : s = k
          · rw [e]; exact Nat.le_refl _
          · have := h2 s (by omega) q
            omega
theorem sj_ymost {post : Int32 → SY → Prop} {x : Int32} {G : Nat → Bool} (hx : sj_mG x G) (hY : sj_YP L D bl bd)
    (K : ∀ (c : Int32) (bg' : Nat → Int32), sj_tab (sj_Q L D) bg' 1024 → sj_mx L D (sj_P L) G c → post c (bl, bd, bf, bg', bj)) : wpY_most post (bl, bd, bf, bg, bj) x := by
  unfold wpY_most
  dsimp only
  exact sj_yfg hY (fun bg' hg => ⟨1025, sj_ymost9 hx hg (fun c h => K c bg' hg h) 1025 0 (-3) (by omega) (by omega) (Or.inl ⟨rfl, fun s hs => by omega⟩)⟩)
theorem sj_ymit {post : Int32 → SY → Prop} (hY : sj_YP L D bl bd)
    (K : ∀ (c : Int32) (bg' : Nat → Int32), sj_mx L D (sj_P L) (sj_fs bf (sj_P L)) c → post c (bl, bd, bf, bg', bj)) : wpY_mostInTime post (bl, bd, bf, bg, bj) := by
  unfold wpY_mostInTime
  dsimp only
  exact sj_yfs hY.1 (fun x hx => sj_ymost (sj_mG_fs hx) hY (fun c bg' _ h => K c bg' h))
/-- the least time -/
def sj_lt (L D : Nat → Nat) (P G : Nat → Bool) (c : Int32) : Prop := (c = -3 ∧ ∀ S, ¬ sj_ok L D P G S) ∨ ∃ T, c = nI (sj_tm L T) ∧ sj_best L D P G T
abbrev sj_O2 (L D : Nat → Nat) (G : Nat → Bool) (c : Int32) (s : Nat) : Prop := sj_O L D G s ∧ nI (sj_cn (sj_ms s)) = c
def sj_ltk (L D : Nat → Nat) (G : Nat → Bool) (c : Int32) (k : Nat) (x : Int32) : Prop :=
  (x = -3 ∧ ∀ s, s < k → ¬ sj_O2 L D G c s) ∨ ∃ t, t < k ∧ x = nI (sj_tm L (sj_ms t)) ∧ sj_O2 L D G c t ∧ ∀ s, s < k → sj_O2 L D G c s → sj_tm L (sj_ms t) ≤ sj_tm L (sj_ms s)
theorem sj_ltk_skip {G : Nat → Bool} {k : Nat} {c x : Int32} (h : sj_ltk L D G c k x) (hk : ¬ sj_O2 L D G c k) : sj_ltk L D G c (k + 1) x := by
  rcases h with ⟨e, h⟩ | ⟨t, ht, e, h1, h2⟩
  · refine Or.inl ⟨e, fun s hs z => ?_⟩
    by_cases q : s = k
    · rw [q] at z; exact hk z
    · exact h s (by omega) z
  · refine Or.inr ⟨t, by omega, e, h1, fun s hs z => ?_⟩
    by_cases q : s = k
    · rw [q] at z; exact absurd z hk
    · exact h2 s (by omega) z
theorem sj_ltk_end {G : Nat → Bool} {c x : Int32} (hm : sj_mx L D (sj_P L) G c) (h : sj_ltk L D G c 1024 x) : sj_lt L D (sj_P L) G x := by
  rcases hm with ⟨ec, hz⟩ | ⟨T, ec, hT, hmax⟩
  · rcases h with ⟨e, _⟩ | ⟨t, _, _, h1, _⟩
    · exact Or.inl ⟨e, hz⟩
    · exact absurd h1.1 (hz _)
  · have hc := sj_cn_le T
    rcases h with ⟨_, h⟩ | ⟨t, ht, e, h1, h2⟩
    · obtain ⟨s, hs, ho, es, _⟩ := sj_ok_mask hT
      exact absurd ⟨ho, by rw [es, ec]⟩ (h s hs)
    · have hc2 := sj_cn_le (sj_ms t)
      have et : sj_cn (sj_ms t) = sj_cn T := (nI_eq (by omega) (by omega)).mp (h1.2.trans ec)
      refine Or.inr ⟨sj_ms t, e, h1.1, fun S hS => ⟨by rw [et]; exact hmax S hS, fun q => ?_⟩⟩
      obtain ⟨s, hs, ho, es, es2⟩ := sj_ok_mask hS
      have := h2 s hs ⟨ho, by rw [es, q, et, ec]⟩
      omega
theorem sj_ylt17 {post : Int32 → SY → Prop} {x c : Int32} {G : Nat → Bool} (hx : sj_mG x G) (hbl : ∀ i, i < 10 → bl i = nI (L i) ∧ L i ≤ 50) (hg : sj_tab (sj_Q L D) bg 1024) (hc : sj_mx L D (sj_P L) G c)
    (K : ∀ y : Int32, sj_lt L D (sj_P L) G y → post y (bl, bd, bf, bg, bj)) :
    ∀ (n k : Nat) (y : Int32), 1024 - k < n → k ≤ 1024 → sj_ltk L D G c k y → wY_leastTime_17 post x c bl bd bf bg bj n y (nI k) := by
  intro n
  induction n with
  | zero => intro k y h; omega
  | succ n ih =>
    intro k y hn hk hI
    refine pk_le 1024 k (fun h => ?_) (fun h => ?_)
    · have e : k = 1024 := by omega
      subst e
      exact K y (sj_ltk_end hc hI)
    · rw [nI_clamp (n := k) (by omega)]
      have sk : ¬ sj_O2 L D G c k → ∀ z : Int32, z = nI k + 1 → wY_leastTime_17 post x c bl bd bf bg bj n y z := fun hz => nm_r (nI_1 k) (ih (k + 1) y (by omega) (by omega) (sj_ltk_skip hI hz))
      refine ⟨vp_in_nI h (by decide), ek_c (sj_tab_0 hg h) (fun z => sk fun q => z q.1.1) (fun z => ek_c (sj_mG_sub hx h) (fun w => ?_) (fun w => sk fun q => w q.1.2))⟩
      refine sj_ysize h (br_c (fun v => ?_) (fun v => sk fun q => v q.2))
      have hok : sj_O2 L D G c k := ⟨⟨Classical.byContradiction z, w⟩, v⟩
      have hb := sj_tmle h hbl
      refine sj_ytime h hbl ?_
      rcases hI with ⟨rfl, hz⟩ | ⟨t, ht, rfl, h1, h2⟩
      · refine br_t rfl (nm_r (nI_1 k) (ih (k + 1) _ (by omega) (by omega) (Or.inr ⟨k, by omega, rfl, hok, fun s hs q => ?_⟩)))
        by_cases e : s = k
        · rw [e]; exact Nat.le_refl _
        · exact absurd q (hz s (by omega))
      · have hb2 := sj_tmle (show t < 1024 by omega) hbl
        refine br_f (sj_m3eq (by omega)) (pk_le (sj_tm L (sj_ms t)) (sj_tm L (sj_ms k)) (fun d => nm_r (nI_1 k) (ih (k + 1) _ (by omega) (by omega) (Or.inr ⟨t, by omega, rfl, h1, fun s hs q => ?_⟩)))
          (fun d => nm_r (nI_1 k) (ih (k + 1) _ (by omega) (by omega) (Or.inr ⟨k, by omega, rfl, hok, fun s hs q => ?_⟩))))
        · by_cases e : s = k
          · rw [e]; exact d
          · exact h2 s (by omega) q
        · by_cases e : s = k
          · rw [e]; exact Nat.le_refl _
          · have := h2 s (by omega) q
            omega
theorem sj_ylt {post : Int32 → SY → Prop} (hY : sj_YP L D bl bd)
    (K : ∀ (y : Int32) (bg' : Nat → Int32), sj_lt L D (sj_P L) (sj_fs bf (sj_P L)) y → post y (bl, bd, bf, bg', bj)) : wpY_leastTime post (bl, bd, bf, bg, bj) := by
  unfold wpY_leastTime
  dsimp only
  exact sj_yfs hY.1 (fun x hx => sj_ymost (sj_mG_fs hx) hY (fun c bg' hg hc => ⟨1025, sj_ylt17 (sj_mG_fs hx) hY.1 hg hc (fun y h => K y bg' h) 1025 0 (-3) (by omega) (by omega) (Or.inl ⟨rfl, fun s hs => by omega⟩)⟩))
/-! a welcome job: place 10 -/
abbrev sj_P1 (L : Nat → Nat) : Nat → Bool := sj_ins (sj_P L) 10
abbrev sj_J (L D : Nat → Nat) (t : Nat) : Prop := sj_gd L D (sj_P1 L) (sj_ins (sj_ms t) 10)
theorem sj_ms_n10 {s : Nat} (hs : s < 1024) : ¬ sj_ms s 10 = true := fun z => absurd (sj_ms10 hs z) (by omega)
theorem sj_Jrec {s : Nat} (hs : s < 1024) : sj_J L D s ↔ (sj_Q L D s ∧ sj_tm L (sj_ms s) + L 10 ≤ D 10) ∨ ∃ i, i < 10 ∧ sj_lst L D (sj_P L) (sj_ms s) (sj_tm L (sj_ms s) + L 10) (fun i => sj_gd L D (sj_P1 L) (sj_ins (sj_del (sj_ms s) i) 10)) i := by
  have h10 := sj_ms_n10 hs
  have et := sj_tm_ins (L := L) (by omega) h10
  refine (sj_rec (L := L) (D := D) (P := sj_P1 L) (S := sj_ins (sj_ms s) 10) ⟨10, by omega, sj_insI.mpr (Or.inr rfl)⟩).trans ?_
  constructor
  · intro ⟨i, hi, h1, h2, h3, h4⟩
    by_cases c : i = 10
    · subst c
      refine Or.inl ⟨⟨fun j hj z => ?_, sj_fe_mono (fun j hj z => ?_) h4.2⟩, by omega⟩
      · have hj10 := sj_ms10 hs z
        exact (sj_insI.mp (h4.1 j hj (sj_delI.mpr ⟨sj_insI.mpr (Or.inl z), by omega⟩))).elim id (fun q => by omega)
      · have hj10 := sj_ms10 hs z
        exact sj_delI.mpr ⟨sj_insI.mpr (Or.inl z), by omega⟩
    · refine Or.inr ⟨i, by omega, (sj_insI.mp h1).elim id (fun q => absurd q c), (sj_insI.mp h2).elim id (fun q => absurd q c), by omega, ?_⟩
      refine (sj_gd_cg (fun j hj => ?_)).mp h4
      rw [sj_delI, sj_insI, sj_insI, sj_delI]
      constructor
      · intro z
        exact z.1.elim (fun q => Or.inl ⟨q, z.2⟩) Or.inr
      · intro z
        rcases z with z | z
        · exact ⟨Or.inl z.1, z.2⟩
        · exact ⟨Or.inr z, by omega⟩
  · intro h
    rcases h with ⟨hq, ht⟩ | ⟨i, hi, h1, h2, h3, h4⟩
    · refine ⟨10, by omega, sj_insI.mpr (Or.inr rfl), sj_insI.mpr (Or.inr rfl), by omega, fun j hj z => ?_, sj_fe_mono (fun j hj z => ?_) hq.2⟩
      · have z' := sj_delI.mp z
        exact sj_insI.mpr (Or.inl (hq.1 j hj ((sj_insI.mp z'.1).elim id (fun q => absurd q z'.2))))
      · have z' := sj_delI.mp z
        exact (sj_insI.mp z'.1).elim id (fun q => absurd q z'.2)
    · refine ⟨i, by omega, sj_insI.mpr (Or.inl h1), sj_insI.mpr (Or.inl h2), by omega, (sj_gd_cg (fun j hj => ?_)).mp h4⟩
      rw [sj_delI, sj_insI, sj_insI, sj_delI]
      constructor
      · intro z
        rcases z with z | z
        · exact ⟨Or.inl z.1, z.2⟩
        · exact ⟨Or.inr z, by omega⟩
      · intro z
        exact z.1.elim (fun q => Or.inl ⟨q, z.2⟩) Or.inr
theorem sj_yhlw {post : Int32 → Prop} {s : Nat} (hs : s < 1024) (hY : sj_YP L D bl bd) (hl : L 10 ≤ 50) (hd : D 10 ≤ 200) (hg : sj_tab (sj_Q L D) bg 1024) (hj : sj_tab (sj_J L D) bj s)
    (K1 : sj_J L D s → post 1) (K0 : ¬ sj_J L D s → post 0) : wpY_hasLastWith post (bl, bd, bf, bg, bj) (nI s) (nI (L 10)) (nI (D 10)) := by
  have hb := sj_tmle hs hY.1
  have hrec := sj_Jrec (L := L) (D := D) hs
  have lp : (¬ (sj_Q L D s ∧ sj_tm L (sj_ms s) + L 10 ≤ D 10)) → ∃ n29 : Nat, wY_hasLastWith_29 post (nI s) (nI (sj_tm L (sj_ms s) + L 10)) bl bd bf bg bj n29 0 := fun hn =>
    ⟨11, sj_yhl29 (Q := fun i => sj_gd L D (sj_P1 L) (sj_ins (sj_del (sj_ms s) i) 10)) (R := sj_J L D) hs (by omega) hY hj (fun i t _ _ _ hz => sj_gd_cg (fun j _ => by rw [sj_insI, sj_insI, hz j]))
      (fun i hi q => K1 (hrec.mpr (Or.inr ⟨i, hi, q⟩))) (fun hz => K0 fun q => (hrec.mp q).elim hn (fun ⟨i, hi, w⟩ => hz i hi w)) 11 0 (by omega) (by omega) (fun i hi => by omega)⟩
  unfold wpY_hasLastWith
  dsimp only
  refine sj_ytime hs hY.1 (nm_r (nI_add _ _) ⟨vp_in_nI hs (by decide), ?_⟩)
  rw [nI_clamp (n := s) (by omega)]
  refine ek_c (sj_tab_0 hg hs) (fun z => lp fun q => z q.1) (fun z => pk_lt (D 10) (sj_tm L (sj_ms s) + L 10) (fun c => lp fun q => by omega) (fun c => K1 (hrec.mpr (Or.inl ⟨Classical.byContradiction z, c⟩))))
/-- some set with the new job is good, has all firm ones and more jobs than c -/
abbrev sj_W (L D : Nat → Nat) (G : Nat → Bool) (c s : Nat) : Prop := sj_J L D s ∧ sj_sub G (sj_ms s) ∧ c < sj_cn (sj_ms s) + 1
theorem sj_ywel35 {post : Int32 → SY → Prop} {x : Int32} {c : Nat} {G : Nat → Bool} (hx : sj_mG x G) (hcb : c ≤ 11) (hY : sj_YP L D bl bd) (hl : L 10 ≤ 50) (hd : D 10 ≤ 200) (hg : sj_tab (sj_Q L D) bg 1024)
    (K1 : ∀ (bj' : Nat → Int32) (s : Nat), s < 1024 → sj_W L D G c s → post 1 (bl, bd, bf, bg, bj'))
    (K0 : ∀ bj' : Nat → Int32, (∀ s, s < 1024 → ¬ sj_W L D G c s) → post 0 (bl, bd, bf, bg, bj')) :
    ∀ (n k : Nat) (bj : Nat → Int32), 1024 - k < n → k ≤ 1024 → sj_tab (sj_J L D) bj k → (∀ s, s < k → ¬ sj_W L D G c s) → wY_welcome_35 post (nI (L 10)) (nI (D 10)) x (nI c) n (nI k) bl bd bf bg bj := by
  intro n
  induction n with
  | zero => intro k bj h; omega
  | succ n ih =>
    intro k bj hn hk hj hI
    refine pk_le 1024 k (fun h => ?_) (fun h => ?_)
    · have e : k = 1024 := by omega
      subst e
      exact K0 bj hI
    · have sk : ∀ bj' : Nat → Int32, sj_tab (sj_J L D) bj' (k + 1) → ¬ sj_W L D G c k → ∀ z : Int32, z = nI k + 1 → wY_welcome_35 post (nI (L 10)) (nI (D 10)) x (nI c) n z bl bd bf bg bj' := fun bj' hj' hz => nm_r (nI_1 k) (ih (k + 1) bj' (by omega) (by omega) hj' (by
        intro s hs
        by_cases e : s = k
        · rw [e]; exact hz
        · exact hI s (by omega)))
      have hcn := sj_cn_le (sj_ms k)
      refine sj_yhlw h hY hl hd hg hj (fun q => ⟨vp_in_nI h (by decide), nm_r (e' := upd bj k 1) (by rw [nI_clamp (by omega), sj_n01 (Or.inr rfl)]) ⟨vp_in_nI h (by decide), ?_⟩⟩)
        (fun q => ⟨vp_in_nI h (by decide), nm_r (e' := upd bj k 0) (by rw [nI_clamp (by omega), sj_n01 (Or.inl rfl)]) ⟨vp_in_nI h (by decide), ?_⟩⟩)
      · rw [nI_clamp (n := k) (by omega), pk_us]
        have hj' := sj_tab_s hj (Or.inl ⟨rfl, q⟩)
        refine br_f (by decide) (ek_c (sj_mG_sub hx h) (fun w => sj_ysize h ?_) (fun w => sk _ hj' fun v => w v.2.1))
        rw [nI_1 (sj_cn (sj_ms k))]
        exact pk_le (sj_cn (sj_ms k) + 1) c (fun d => sk _ hj' fun v => absurd v.2.2 (by omega)) (fun d => K1 _ k h ⟨q, w, d⟩)
      · rw [nI_clamp (n := k) (by omega), pk_us]
        exact br_t rfl (sk _ (sj_tab_s hj (Or.inr ⟨rfl, q⟩)) fun v => q v.1)
/-! the first empty place -/
def sj_fst (L : Nat → Nat) (k : Nat) (x : Int32) : Prop := (x = -1 ∧ ∀ i, k ≤ i → i < 10 → L i ≠ 0) ∨ ∃ j : Nat, x = nI j ∧ k ≤ j ∧ j < 10 ∧ L j = 0 ∧ ∀ i, k ≤ i → i < j → L i ≠ 0
theorem sj_yput7 {post : Int32 → SY → Prop} {x1 x2 x3 : Int32} (hbl : ∀ i, i < 10 → bl i = nI (L i) ∧ L i ≤ 50)
    (KF : (∀ i, i < 10 → L i ≠ 0) → post (-2) (bl, bd, bf, bg, bj))
    (K0 : ∀ j : Nat, j < 10 → L j = 0 → ¬ sj_job x1 x2 → post (-1) (bl, bd, bf, bg, bj))
    (K1 : ∀ j : Nat, j < 10 → L j = 0 → (∀ i, i < j → L i ≠ 0) → sj_job x1 x2 → post (nI j) (upd bl j x1, upd bd j x2, upd bf j (vp_nar .boolean x3), bg, bj)) :
    ∀ (n k : Nat) (x : Int32), k < n → k ≤ 10 → sj_fst L k x → wY_put_7 post x1 x2 x3 bl bd bf bg bj n x (nI k + (-1)) := by
  intro n
  induction n with
  | zero => intro k x h; omega
  | succ n ih =>
    intro k x hn hk hI
    rcases Nat.eq_zero_or_pos k with h0 | h0
    · subst h0
      refine br_t (by decide) ?_
      rcases hI with ⟨rfl, hz⟩ | ⟨j, rfl, _, hj, h1, h2⟩
      · exact br_f sj_m1nle (KF fun i hi => hz i (by omega) hi)
      · refine br_t (nI_pos' (by omega)) (sj_yfits (fun q => br_f (by decide) ?_) (fun q => br_t rfl (K0 j hj h1 q)))
        have K := K1 j hj h1 (fun i hi => h2 i (by omega) hi) q
        refine ⟨vp_in_nI hj (by decide), nm_r (e' := upd bl j x1) (by rw [nI_clamp (by omega)]) ⟨vp_in_nI hj (by decide), nm_r (e' := upd bd j x2) (by rw [nI_clamp (by omega)]) ⟨vp_in_nI hj (by decide), nm_r (e' := upd bf j (vp_nar .boolean x3)) (by rw [nI_clamp (by omega)]) K⟩⟩⟩
    · obtain ⟨b, rfl⟩ : ∃ b, k = b + 1 := ⟨k - 1, by omega⟩
      rw [pk_m1 b]
      have hL := (hbl b (by omega)).2
      refine br_f (nI_pos (by omega)) ⟨vp_in_nI (by omega) (by decide), ?_⟩
      rw [nI_clamp (n := b) (by omega), (hbl b (by omega)).1]
      refine ek_c (sj_eq0 (by omega)) (fun z => nm_e (ih b _ (by omega) (by omega) (Or.inr ⟨b, rfl, Nat.le_refl _, by omega, z, fun i h1 h2 => by omega⟩))) (fun z => nm_e (ih b _ (by omega) (by omega) ?_))
      rcases hI with ⟨e, hz⟩ | ⟨j, e, hbj, hj, h1, h2⟩
      · refine Or.inl ⟨e, fun i h1 h2 => ?_⟩
        by_cases c : i = b
        · rw [c]; exact z
        · exact hz i (by omega) h2
      · refine Or.inr ⟨j, e, by omega, hj, h1, fun i h3 h4 => ?_⟩
        by_cases c : i = b
        · rw [c]; exact z
        · exact h2 i (by omega) h4
end
