/-! the class: its small methods -/
def sj_job (a b : Int32) : Prop := ¬ a < 1 ∧ ¬ 50 < a ∧ ¬ b < 0 ∧ ¬ 200 < b
theorem sj_job_nI {a b : Int32} (h : sj_job a b) : ∃ l d : Nat, a = nI l ∧ b = nI d ∧ 1 ≤ l ∧ l ≤ 50 ∧ d ≤ 200 := by
  obtain ⟨h1, h2, h3, h4⟩ := h
  have a0 : ¬ a < 0 := by
    intro z
    apply h1
    rw [Int32.lt_iff_toInt_lt] at z ⊢
    have e0 : (0 : Int32).toInt = 0 := by decide
    have e1 : (1 : Int32).toInt = 1 := by decide
    omega
  obtain ⟨l, hl, rfl⟩ := nI_of a0
  obtain ⟨d, hd, rfl⟩ := nI_of h3
  refine ⟨l, d, rfl, rfl, ?_, ?_, ?_⟩
  · apply Classical.byContradiction
    intro z
    exact h1 (nI_lt (b := 1) (by omega) (by decide))
  · apply Classical.byContradiction
    intro z
    exact h2 (nI_lt (a := 50) (by omega) hl)
  · apply Classical.byContradiction
    intro z
    exact h4 (nI_lt (a := 200) (by omega) hd)
theorem sj_xJob {post : Int32 → Prop} {u : SX} {a b : Int32} (K1 : sj_job a b → post 1) (K0 : ¬ sj_job a b → post 0) : wpX_isJob post u a b := by
  obtain ⟨_, _, _, _, _, _, _, _, _⟩ := u
  exact br_c (fun h => K0 fun z => z.1 h) (fun h1 => br_c (fun h => K0 fun z => z.2.1 h) (fun h2 => br_c (fun h => K0 fun z => z.2.2.1 h) (fun h3 => br_c (fun h => K0 fun z => z.2.2.2 h) (fun h4 => K1 ⟨h1, h2, h3, h4⟩))))
def sj_pl (L : Nat → Nat) (x : Int32) : Prop := ∃ j : Nat, j < 10 ∧ x = nI j ∧ L j ≠ 0
section
variable {jc rk ad ac tt : Int32} {al dl fm ra : Nat → Int32} {L D r : Nat → Nat} {P : Nat → Bool}
theorem sj_xPlace {post : Int32 → Prop} {x : Int32} (hal : ∀ i, i < 11 → al i = nI (L i) ∧ L i ≤ 50) (K1 : sj_pl L x → post 1) (K0 : ¬ sj_pl L x → post 0) :
    wpX_isPlace post (jc, rk, ad, ac, tt, al, dl, fm, ra) x := by
  by_cases h : x < 0
  · refine br_t h (K0 ?_)
    rintro ⟨j, hj, e, _⟩
    rw [e] at h
    exact nI_pos (by omega) h
  · obtain ⟨j, hj, rfl⟩ := nI_of h
    by_cases c : j < 10
    · refine br_f h (br_f (nI_nlt (a := 9) (by omega) (by decide)) ⟨vp_in_nI (by omega) (by decide), ?_⟩)
      rw [nI_clamp hj, (hal j (by omega)).1]
      have hL := (hal j (by omega)).2
      refine ek_c (sj_eq0 (by omega)) (fun z => K0 ?_) (fun z => K1 ⟨j, c, rfl, z⟩)
      rintro ⟨i, hi, e, q⟩
      have := (nI_eq (by omega) (by omega)).mp e
      subst this
      exact q z
    · refine br_f h (br_t (nI_lt (a := 9) (by omega) hj) (K0 ?_))
      rintro ⟨i, hi, e, _⟩
      have := (nI_eq (by omega) (by omega)).mp e
      omega
end
section
variable {post : SX → Prop} {jc ad ac tt : Int32} {al dl fm : Nat → Int32} {D r : Nat → Nat} {m i : Nat}
theorem sj_xins5 (hm : m ≤ 10) (hi : i < 11) (hr : ∀ p, p < m → r p < 11) (hd : ∀ p, p < m → dl (r p) = nI (D (r p)) ∧ D (r p) ≤ 200) (hdi : dl i = nI (D i)) (hDi : D i ≤ 200)
    (K : ∀ (a : Nat) (ra' : Nat → Int32), a ≤ m → (∀ p, p < m + 1 → ra' p = nI (sj_insF r a i p)) → (0 < a → D (r (a - 1)) ≤ D i) → (∀ p, a ≤ p → p < m → D i < D (r p)) → post (jc, nI (m + 1), ad, ac, tt, al, dl, fm, ra')) :
    ∀ (n a : Nat) (ra : Nat → Int32), a < n → a ≤ m → (∀ p, p < a → ra p = nI (r p)) → (∀ p, a < p → p ≤ m → ra p = nI (r (p - 1))) → (∀ p, a ≤ p → p < m → D i < D (r p)) →
      wX_insert_5 post (nI i) jc (nI m) ad ac tt n (nI a) al dl fm ra := by
  intro n
  induction n with
  | zero => intro a ra h; omega
  | succ n ih =>
    intro a ra hn ham h1 h2 h3
    have ex : (0 < a → D (r (a - 1)) ≤ D i) → wX_insert_51 post (nI i) (nI a) jc (nI m) ad ac tt al dl fm ra := by
      intro h4
      refine ⟨vp_in_nI (by omega) (by decide), nm_r (e' := upd ra a (nI i)) (by rw [nI_clamp (by omega), sj_nb2 (by omega)]) (nm_r (nI_1 m) (K a _ ham ?_ h4 h3))⟩
      intro p hp
      rcases Nat.lt_trichotomy p a with h | h | h
      · rw [pk_un (by omega), sj_insF_1 h, h1 p h]
      · subst h; rw [pk_us, sj_insF_2]
      · rw [pk_un (by omega), sj_insF_3 h, h2 p h (by omega)]
    rcases Nat.eq_zero_or_pos a with h0 | h0
    · subst h0
      exact br_t (nI_le (a := 0) (b := 0) (by omega) (by decide)) (ex (fun h => absurd h (by omega)))
    · obtain ⟨b, rfl⟩ : ∃ b, a = b + 1 := ⟨a - 1, by omega⟩
      have hb := h1 b (by omega)
      have hrb := hr b (by omega)
      obtain ⟨hdb, hDb⟩ := hd b (by omega)
      refine br_f (nI_nle (by omega) (by omega)) ?_
      rw [nI_pred b, nI_clamp (n := b) (by omega), hb, nI_clamp (n := r b) (by omega), nI_clamp (n := i) (by omega), nI_clamp (n := b + 1) (by omega), hdb, hdi, sj_nb (by omega)]
      refine ⟨vp_in_nI (by omega) (by decide), vp_in_nI hrb (by decide), vp_in_nI hi (by decide), pk_le (D (r b)) (D i) (fun h => ex (fun _ => h)) (fun h => ?_)⟩
      refine ⟨vp_in_nI (by omega) (by decide), vp_in_nI (by omega) (by decide), nm_e (nm_r (pk_m1 b) (ih b _ (by omega) (by omega) ?_ ?_ ?_))⟩
      · intro p hp
        rw [pk_un (by omega)]; exact h1 p (by omega)
      · intro p hp hpm
        by_cases c : p = b + 1
        · subst c; rw [pk_us, Nat.add_sub_cancel]
        · rw [pk_un c]; exact h2 p (by omega) hpm
      · intro p hp hpm
        by_cases c : p = b
        · subst c; exact h
        · exact h3 p (by omega) hpm
theorem sj_xins {ra : Nat → Int32} (hm : m ≤ 10) (hi : i < 11) (hr : ∀ p, p < m → r p < 11) (hd : ∀ p, p < m → dl (r p) = nI (D (r p)) ∧ D (r p) ≤ 200) (hdi : dl i = nI (D i)) (hDi : D i ≤ 200)
    (hra : ∀ p, p < m → ra p = nI (r p))
    (K : ∀ (a : Nat) (ra' : Nat → Int32), a ≤ m → (∀ p, p < m + 1 → ra' p = nI (sj_insF r a i p)) → (0 < a → D (r (a - 1)) ≤ D i) → (∀ p, a ≤ p → p < m → D i < D (r p)) → post (jc, nI (m + 1), ad, ac, tt, al, dl, fm, ra')) :
    wpX_insert post (jc, nI m, ad, ac, tt, al, dl, fm, ra) (nI i) :=
  ⟨m + 1, sj_xins5 hm hi hr hd hdi hDi K (m + 1) m ra (by omega) (Nat.le_refl _) hra (fun p h1 h2 => by omega) (fun p h1 h2 => by omega)⟩
end
section
variable {post : SX → Prop} {jc ad ac tt : Int32} {al dl fm : Nat → Int32} {r : Nat → Nat} {M j : Nat}
theorem sj_wd38 {a0 : Nat} (hM : M ≤ 10) (hr : ∀ p, p < M + 1 → r p < 11)
    (K : ∀ ra' : Nat → Int32, (∀ p, p < M → ra' p = nI (sj_delF r a0 p)) → post (jc, nI M, ad, ac, tt, al, dl, fm, ra')) :
    ∀ (n a : Nat) (ra : Nat → Int32), M - a < n → a0 ≤ a → a ≤ M → (∀ p, p < a → ra p = nI (sj_delF r a0 p)) → (∀ p, a < p → p < M + 1 → ra p = nI (r p)) →
      wX_withdraw_38 post jc (nI M) ad ac tt n (nI a) al dl fm ra := by
  intro n
  induction n with
  | zero => intro a ra h; omega
  | succ n ih =>
    intro a ra hn h0 ha h1 h2
    refine pk_le M a (fun h => ?_) (fun h => ?_)
    · have e : a = M := by omega
      subst e
      exact K ra h1
    · have hra := h2 (a + 1) (by omega) (by omega)
      have hlt := hr (a + 1) (by omega)
      rw [nI_1 a, nI_clamp (n := a + 1) (by omega), nI_clamp (n := a) (by omega), hra, sj_nb (by omega)]
      refine ⟨vp_in_nI (by omega) (by decide), vp_in_nI (by omega) (by decide), nm_e (nm_e (ih (a + 1) _ (by omega) (by omega) (by omega) ?_ ?_))⟩
      · intro p hp
        by_cases c : p = a
        · subst c; rw [pk_us, sj_delF_2 h0]
        · rw [pk_un c]; exact h1 p (by omega)
      · intro p hp hpm
        rw [pk_un (by omega)]; exact h2 p (by omega) hpm
theorem sj_wd2 {ra : Nat → Int32} (hM : M ≤ 10) (hj : j < 11) (hr : ∀ p, p < M + 1 → r p < 11) (hra : ∀ p, p < M + 1 → ra p = nI (r p)) (hex : ∃ a, a ≤ M ∧ r a = j)
    (K : ∀ (a : Nat) (ra' : Nat → Int32), a ≤ M → r a = j → (∀ p, p < M → ra' p = nI (sj_delF r a p)) → post (jc, nI M, ad, ac, tt, al, dl, fm, ra')) :
    ∀ n a : Nat, M - a < n → a ≤ M → (∀ p, p < a → r p ≠ j) → wX_withdraw_2 post (nI j) jc (nI (M + 1)) ad ac tt al dl fm ra n (nI a) := by
  intro n
  induction n with
  | zero => intro a h; omega
  | succ n ih =>
    intro a hn ha h1
    have go : r a = j → ∃ n38 : Nat, wX_withdraw_38 post jc (nI M) ad ac tt n38 (nI a) al dl fm ra := fun e =>
      ⟨M - a + 1, sj_wd38 hM hr (fun ra' h => K a ra' ha e h) (M - a + 1) a ra (by omega) (Nat.le_refl _) ha (fun p hp => by rw [sj_delF_1 hp]; exact hra p (by omega)) (fun p _ hp => hra p hp)⟩
    show (_ → _) ∧ (_ → _)
    rw [nI_pred M]
    refine pk_le M a (fun h => ?_) (fun h => ?_)
    · have e : a = M := by omega
      subst e
      obtain ⟨b, hb, e⟩ := hex
      have e2 : b = a := by
        apply Classical.byContradiction
        intro z
        exact h1 b (by omega) e
      subst e2
      exact nm_e (go e)
    · have hrl := hr a (by omega)
      rw [nI_clamp (n := a) (by omega), hra a (by omega)]
      refine ⟨vp_in_nI (by omega) (by decide), pk_eq (r a) j (fun e => nm_e (go e)) (fun e => nm_r (nI_1 a) (ih (a + 1) (by omega) (by omega) ?_))⟩
      intro p hp
      by_cases c : p = a
      · rw [c]; exact e
      · exact h1 p (by omega)
theorem sj_xwd {ra : Nat → Int32} (hM : M ≤ 10) (hj : j < 11) (hr : ∀ p, p < M + 1 → r p < 11) (hra : ∀ p, p < M + 1 → ra p = nI (r p)) (hex : ∃ a, a ≤ M ∧ r a = j)
    (K : ∀ (a : Nat) (ra' : Nat → Int32), a ≤ M → r a = j → (∀ p, p < M → ra' p = nI (sj_delF r a p)) → post (jc, nI M, ad, ac, tt, al, dl, fm, ra')) :
    wpX_withdraw post (jc, nI (M + 1), ad, ac, tt, al, dl, fm, ra) (nI j) :=
  ⟨M + 1, sj_wd2 hM hj hr hra hex K (M + 1) 0 (by omega) (Nat.zero_le _) (fun p hp => by omega)⟩
end
section
variable {post : Int32 → SX → Prop} {ad ac tt : Int32} {al dl fm ra : Nat → Int32} {L r : Nat → Nat} {M j : Nat}
/-- drop of a place that holds a job -/
theorem sj_xdrop (hM : M ≤ 10) (hj : j < 10) (hal : ∀ i, i < 11 → al i = nI (L i) ∧ L i ≤ 50) (hL : L j ≠ 0) (hr : ∀ p, p < M + 1 → r p < 11) (hra : ∀ p, p < M + 1 → ra p = nI (r p)) (hex : ∃ a, a ≤ M ∧ r a = j)
    (K : ∀ (a : Nat) (ra' : Nat → Int32), a ≤ M → r a = j → (∀ p, p < M → ra' p = nI (sj_delF r a p)) → post (nI M) (nI M, nI M, ad, ac, tt, upd al j 0, dl, fm, ra')) :
    wpX_drop post (nI (M + 1), nI (M + 1), ad, ac, tt, al, dl, fm, ra) (nI j) := by
  unfold wpX_drop
  dsimp only
  refine sj_xPlace hal (fun _ => br_f (by decide) ⟨vp_in_nI (by omega) (by decide), nm_r (e' := upd al j 0) (by rw [nI_clamp (by omega), show (0 : Int32) = nI 0 from rfl, sj_nb (by omega)]) (nm_r (nI_pred M) ?_)⟩) (fun z => absurd ⟨j, hj, rfl, hL⟩ z)
  exact sj_xwd hM (by omega) hr hra hex K
/-- drop of another number -/
theorem sj_xdrop0 {jc rk : Int32} {x : Int32} (hal : ∀ i, i < 11 → al i = nI (L i) ∧ L i ≤ 50) (hx : ¬ sj_pl L x) (K : post (-1) (jc, rk, ad, ac, tt, al, dl, fm, ra)) :
    wpX_drop post (jc, rk, ad, ac, tt, al, dl, fm, ra) x := by
  unfold wpX_drop
  dsimp only
  exact sj_xPlace hal (fun z => absurd z hx) (fun _ => br_t rfl K)
theorem sj_xfind {jc rk x1 x2 x3 : Int32} (hj : j < 10) (hal : ∀ i, i < 11 → al i = nI (L i) ∧ L i ≤ 50) (h0 : L j = 0) (h1 : ∀ i, i < j → L i ≠ 0)
    (K : wX_put_49 post x1 x2 x3 (nI j) jc rk ad ac tt al dl fm ra) : ∀ n i : Nat, j - i < n → i ≤ j → wX_put_26 post x1 x2 x3 jc rk ad ac tt al dl fm ra n (nI i) := by
  intro n
  induction n with
  | zero => intro i h; omega
  | succ n ih =>
    intro i hn hi
    refine pk_le 9 i (fun h => ?_) (fun h => ?_)
    · have e : i = j := by omega
      rw [e]; exact K
    · have hi50 := (hal i (by omega)).2
      rw [nI_clamp (n := i) (by omega), (hal i (by omega)).1]
      refine ⟨vp_in_nI (by omega) (by decide), ek_c (sj_eq0 (by omega)) (fun z => ?_) (fun z => ?_)⟩
      · have e : i = j := by
          apply Classical.byContradiction
          intro q
          exact h1 i (by omega) z
        rw [e]; exact K
      · have e : i ≠ j := fun q => z (by rw [q]; exact h0)
        exact nm_r (nI_1 i) (ih (i + 1) (by omega) (by omega))
end
