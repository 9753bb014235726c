/-! elapse, on both sides -/
def sj_uN (f : Nat → Nat) (k v : Nat) : Nat → Nat := fun j => if j = k then v else f j
theorem sj_us {f : Nat → Nat} {k v : Nat} : sj_uN f k v k = v := if_pos rfl
theorem sj_un {f : Nat → Nat} {k v j : Nat} (h : j ≠ k) : sj_uN f k v j = f j := if_neg h
theorem sj_ct_le (L : Nat → Nat) (n : Nat) : sj_ct L n ≤ n := by
  have h := sj_le (f := fun i => if L i = 0 then 0 else 1) (g := fun _ => 1) (n := n) (by
    intro i _
    show (if L i = 0 then 0 else 1) ≤ 1
    by_cases e : L i = 0
    · rw [if_pos e]; omega
    · rw [if_neg e]; omega)
  rw [sj_const] at h
  exact h
theorem sj_ct_full {L : Nat → Nat} {n : Nat} (h : ∀ i, i < n → L i ≠ 0) : sj_ct L n = n := by
  have e := sj_cg (f := fun i => if L i = 0 then 0 else 1) (g := fun _ => 1) (n := n) (fun i hi => by
    show (if L i = 0 then 0 else 1) = 1
    rw [if_neg (h i hi)])
  rw [sj_const] at e
  exact e
theorem sj_ct_add {L : Nat → Nat} {j v n : Nat} (hj : j < n) (h0 : L j = 0) (hv : v ≠ 0) : sj_ct (sj_uN L j v) n = sj_ct L n + 1 := by
  have e := sj_up (f := fun i => if L i = 0 then 0 else 1) (g := fun i => if sj_uN L j v i = 0 then 0 else 1) (x := j) (fun i hi => by
    show (if sj_uN L j v i = 0 then 0 else 1) = (if L i = 0 then 0 else 1)
    rw [sj_un hi]) hj
  try dsimp only at e
  rw [if_pos h0, sj_us, if_neg hv] at e
  exact e
theorem sj_ct_sub {L : Nat → Nat} {j n : Nat} (hj : j < n) (h0 : L j ≠ 0) : sj_ct (sj_uN L j 0) n + 1 = sj_ct L n := by
  have e := sj_up (f := fun i => if L i = 0 then 0 else 1) (g := fun i => if sj_uN L j 0 i = 0 then 0 else 1) (x := j) (fun i hi => by
    show (if sj_uN L j 0 i = 0 then 0 else 1) = (if L i = 0 then 0 else 1)
    rw [sj_un hi]) hj
  try dsimp only at e
  rw [if_neg h0, sj_us, if_pos rfl] at e
  exact e
theorem sj_ct_lt {L : Nat → Nat} {j n : Nat} (hj : j < n) (h0 : L j = 0) : sj_ct L n < n := by
  have h1 := sj_ct_add (v := 1) hj h0 (by omega)
  have h2 := sj_ct_le (sj_uN L j 1) n
  omega
theorem sj_first {L : Nat → Nat} : ∀ n : Nat, sj_ct L n < n → ∃ j, j < n ∧ L j = 0 ∧ ∀ i, i < j → L i ≠ 0 := by
  intro n
  induction n with
  | zero => intro h; omega
  | succ n ih =>
    intro h
    by_cases c : sj_ct L n < n
    · obtain ⟨j, hj, h1, h2⟩ := ih c
      exact ⟨j, by omega, h1, h2⟩
    · have hle := sj_ct_le L n
      have hs : sj_ct L (n + 1) = sj_ct L n + (if L n = 0 then 0 else 1) := rfl
      have hn : L n = 0 := by
        apply Classical.byContradiction
        intro z
        rw [if_neg z] at hs
        omega
      refine ⟨n, by omega, hn, fun i hi z => ?_⟩
      have := sj_ct_lt hi z
      omega
theorem sj_P_del {L : Nat → Nat} {j : Nat} : ∀ i, i < 11 → (sj_P (sj_uN L j 0) i = true ↔ sj_del (sj_P L) j i = true) := by
  intro i _
  rw [sj_PI, sj_delI, sj_PI]
  by_cases c : i = j
  · rw [c, sj_us]
    exact ⟨fun z => absurd rfl z.2, fun z => absurd rfl z.2⟩
  · rw [sj_un c]
    exact ⟨fun z => ⟨z, c⟩, fun z => z.1⟩
theorem sj_P_ins {L : Nat → Nat} {j l : Nat} (hj : j < 10) (hl : l ≠ 0) : ∀ i, i < 11 → (sj_P (sj_uN L j l) i = true ↔ sj_ins (sj_P L) j i = true) := by
  intro i _
  rw [sj_PI, sj_insI, sj_PI]
  by_cases c : i = j
  · rw [c, sj_us]
    exact ⟨fun _ => Or.inr rfl, fun _ => ⟨hj, hl⟩⟩
  · rw [sj_un c]
    exact ⟨fun z => Or.inl z, fun z => z.elim id (fun q => absurd q c)⟩
theorem sj_short {z : Int32} (h1 : -32768 ≤ z.toInt) (h2 : z.toInt < 32768) : vp_nar .short z.toInt16.toInt32 = z := by
  rw [vp_nar_short, lg_i2s_small h1 h2, lg_i2s_small h1 h2]
theorem sj_sub0 {a b : Nat} (ha : a ≤ 200) (hb : b ≤ 200) : (0 : Int32) ≤ nI a - nI b ↔ b ≤ a := by
  rw [Int32.le_iff_toInt_le, pk_sub_toInt (by omega) (by omega), show (0 : Int32).toInt = 0 by decide]
  omega
theorem sj_short2 {a b : Nat} (ha : a ≤ 200) (hb : b ≤ 200) : vp_nar .short (nI a - nI b).toInt16.toInt32 = nI a - nI b := by
  have e := pk_sub_toInt (a := a) (b := b) (by omega) (by omega)
  exact sj_short (by rw [e]; omega) (by rw [e]; omega)
def sj_el (L D : Nat → Nat) (t k : Nat) : Nat → Nat := fun j => if j < k ∧ D j < t then 0 else L j
def sj_ed (D : Nat → Nat) (t k : Nat) : Nat → Nat := fun j => if j < k then D j - t else D j
section
variable {L D : Nat → Nat} {t k : Nat}
theorem sj_el_n {i : Nat} (h : i ≠ k) : sj_el L D t (k + 1) i = sj_el L D t k i := by
  show (if i < k + 1 ∧ D i < t then 0 else L i) = (if i < k ∧ D i < t then 0 else L i)
  by_cases c : i < k
  · by_cases d : D i < t
    · rw [if_pos ⟨by omega, d⟩, if_pos ⟨c, d⟩]
    · rw [if_neg (fun z => d z.2), if_neg (fun z => d z.2)]
  · rw [if_neg (fun z => absurd z.1 (by omega)), if_neg (fun z => absurd z.1 (by omega))]
theorem sj_el_k : sj_el L D t k k = L k := by
  show (if k < k ∧ D k < t then 0 else L k) = L k
  rw [if_neg (fun z => absurd z.1 (by omega))]
theorem sj_el_same (h : L k = 0 ∨ ¬ D k < t) : sj_el L D t (k + 1) = sj_el L D t k := by
  funext i
  by_cases c : i = k
  · subst c
    rw [sj_el_k]
    show (if i < i + 1 ∧ D i < t then 0 else L i) = L i
    by_cases d : D i < t
    · rw [if_pos ⟨by omega, d⟩]
      rcases h with h | h
      · exact h.symm
      · exact absurd d h
    · rw [if_neg (fun z => d z.2)]
  · exact sj_el_n c
theorem sj_el_drop (h : D k < t) : sj_el L D t (k + 1) = sj_uN (sj_el L D t k) k 0 := by
  funext i
  by_cases c : i = k
  · subst c
    rw [sj_us]
    show (if i < i + 1 ∧ D i < t then 0 else L i) = 0
    rw [if_pos ⟨by omega, h⟩]
  · rw [sj_un c, sj_el_n c]
theorem sj_ed_n {i : Nat} (h : i ≠ k) : sj_ed D t (k + 1) i = sj_ed D t k i := by
  show (if i < k + 1 then D i - t else D i) = (if i < k then D i - t else D i)
  by_cases c : i < k
  · rw [if_pos (by omega), if_pos c]
  · rw [if_neg (by omega), if_neg c]
theorem sj_ed_k : sj_ed D t k k = D k := if_neg (by omega)
theorem sj_ed_s : sj_ed D t (k + 1) k = D k - t := if_pos (by omega)
/-- the class within elapse -/
def sj_EX (L D : Nat → Nat) (t k : Nat) (r : Nat → Nat) (m : Nat) (al dl ra : Nat → Int32) : Prop :=
  m = sj_ct (sj_el L D t k) 10 ∧ (∀ i, i < 11 → al i = nI (sj_el L D t k i) ∧ sj_el L D t k i ≤ 50) ∧ (∀ i, i < 10 → sj_el L D t k i ≠ 0 → dl i = nI (sj_ed D t k i)) ∧
    sj_Or D (sj_P (sj_el L D t k)) r m ∧ (∀ p, p < m → ra p = nI (r p))
theorem sj_xel15 {post : Int32 → SX → Prop} {ad ac tt : Int32} {fm : Nat → Int32} (ht : t ≤ 200) (hD : ∀ i, i < 10 → L i ≠ 0 → D i ≤ 200)
    (K : ∀ (r : Nat → Nat) (m : Nat) (al dl ra : Nat → Int32), sj_EX L D t 10 r m al dl ra → post (nI m) (nI m, nI m, ad, ac, tt, al, dl, fm, ra)) :
    ∀ (n k : Nat) (r : Nat → Nat) (m : Nat) (al dl ra : Nat → Int32), 10 - k < n → k ≤ 10 → sj_EX L D t k r m al dl ra → wX_elapse_15 post (nI t) n (nI k) (nI m) (nI m) ad ac tt al dl fm ra := by
  intro n
  induction n with
  | zero => intro k r m al dl ra h; omega
  | succ n ih =>
    intro k r m al dl ra hn hk hE
    refine pk_le 10 k (fun h => ?_) (fun h => ?_)
    · have e : k = 10 := by omega
      subst e
      exact K r m al dl ra hE
    · obtain ⟨hm, hal, hdl, hO, hra⟩ := hE
      have hak := hal k (by omega)
      rw [nI_clamp (n := k) (by omega), hak.1, sj_el_k]
      rw [sj_el_k] at hak
      refine ⟨vp_in_nI (by omega) (by decide), ek_c (sj_eq0 (by omega)) (fun z => nm_r (nI_1 k) (ih (k + 1) r m al dl ra (by omega) (by omega) ?_)) (fun z => ?_)⟩
      · have e := sj_el_same (D := D) (t := t) (Or.inl z)
        refine ⟨by rw [e]; exact hm, by rw [e]; exact hal, ?_, by rw [e]; exact hO, hra⟩
        rw [e]
        intro i hi q
        have hne : i ≠ k := fun c => q (by rw [c, sj_el_k]; exact z)
        rw [sj_ed_n hne]; exact hdl i hi q
      · have hdk := hdl k h (by rw [sj_el_k]; exact z)
        have hDk := hD k h z
        rw [sj_ed_k] at hdk
        rw [hdk, sj_short2 hDk ht]
        refine ⟨vp_in_nI (by omega) (by decide), vp_in_nI (by omega) (by decide), nm_e ⟨vp_in_nI (by omega) (by decide), ?_⟩⟩
        rw [pk_us]
        refine ek_c (sj_sub0 hDk ht) (fun c => nm_r (nI_1 k) (ih (k + 1) r m al _ ra (by omega) (by omega) ?_)) (fun c => ?_)
        · have e := sj_el_same (L := L) (D := D) (t := t) (k := k) (Or.inr (by omega))
          refine ⟨by rw [e]; exact hm, by rw [e]; exact hal, ?_, by rw [e]; exact hO, hra⟩
          rw [e]
          intro i hi q
          by_cases d : i = k
          · subst d
            rw [pk_us, sj_ed_s, pk_sub c]
          · rw [pk_un d, sj_ed_n d]; exact hdl i hi q
        · have hkP : sj_P (sj_el L D t k) k = true := sj_PI.mpr ⟨h, by rw [sj_el_k]; exact z⟩
          obtain ⟨a, ha, ea⟩ := (hO.2.2.2 k (by omega)).mp hkP
          have hmle := sj_ct_le (sj_el L D t k) 10
          obtain ⟨M, rfl⟩ : ∃ M, m = M + 1 := ⟨m - 1, by omega⟩
          refine sj_xdrop (L := sj_el L D t k) (r := r) (by omega) h hal (by rw [sj_el_k]; exact z) hO.1 hra ⟨a, by omega, ea⟩ (fun a' ra' ha' ea' hra' => nm_r (nI_1 k) (ih (k + 1) (sj_delF r a') M _ _ _ (by omega) (by omega) ?_))
          have e := sj_el_drop (L := L) (D := D) (t := t) (k := k) (by omega)
          have hc := sj_ct_sub (L := sj_el L D t k) (j := k) (n := 10) h (by rw [sj_el_k]; exact z)
          refine ⟨by rw [e]; omega, ?_, ?_, ?_, hra'⟩
          · rw [e]
            intro i hi
            by_cases d : i = k
            · subst d; rw [pk_us, sj_us]; exact ⟨rfl, by omega⟩
            · rw [pk_un d, sj_un d]; exact hal i hi
          · intro i hi q
            have hne : i ≠ k := fun d => q (by rw [e, d, sj_us])
            rw [pk_un hne, sj_ed_n hne]
            exact hdl i hi (by rw [e, sj_un hne] at q; exact q)
          · rw [e]
            exact sj_Or_P (sj_Or_del hO ha' ea') sj_P_del
/-- the reference within elapse -/
def sj_EY (L D : Nat → Nat) (t k : Nat) (bl bd : Nat → Int32) : Prop :=
  (∀ i, i < 10 → bl i = nI (sj_el L D t k i)) ∧ (∀ i, i < 10 → sj_el L D t k i ≠ 0 → bd i = nI (sj_ed D t k i))
theorem sj_yel15 {post : Int32 → SY → Prop} {bf bg bj : Nat → Int32} (ht : t ≤ 200) (hL : ∀ i, i < 10 → L i ≤ 50) (hD : ∀ i, i < 10 → L i ≠ 0 → D i ≤ 200)
    (K : ∀ (bl bd : Nat → Int32), sj_EY L D t 10 bl bd → post (nI (sj_ct (sj_el L D t 10) 10)) (bl, bd, bf, bg, bj)) :
    ∀ (n k : Nat) (bl bd : Nat → Int32), 10 - k < n → k ≤ 10 → sj_EY L D t k bl bd → wY_elapse_15 post (nI t) n (nI k) bl bd bf bg bj := by
  intro n
  induction n with
  | zero => intro k bl bd h; omega
  | succ n ih =>
    intro k bl bd hn hk hE
    refine pk_le 10 k (fun h => ?_) (fun h => ?_)
    · have e : k = 10 := by omega
      subst e
      refine sj_yjobs (L := sj_el L D t 10) (fun i hi => ⟨hE.1 i hi, ?_⟩) (K bl bd hE)
      show (if i < 10 ∧ D i < t then 0 else L i) ≤ 50
      by_cases c : i < 10 ∧ D i < t
      · rw [if_pos c]; omega
      · rw [if_neg c]; exact hL i hi
    · obtain ⟨hbl, hbd⟩ := hE
      rw [nI_clamp (n := k) (by omega)]
      refine ⟨vp_in_nI (by omega) (by decide), vp_in_nI (by omega) (by decide), nm_e ⟨vp_in_nI (by omega) (by decide), ?_⟩⟩
      rw [pk_us]
      by_cases z : L k = 0
      · have e := sj_el_same (D := D) (t := t) (Or.inl z)
        have hd' : ∀ (v : Int32), ∀ i, i < 10 → sj_el L D t (k + 1) i ≠ 0 → upd bd k v i = nI (sj_ed D t (k + 1) i) := by
          intro v i hi q
          rw [e] at q
          have hne : i ≠ k := fun c => q (by rw [c, sj_el_k]; exact z)
          rw [pk_un hne, sj_ed_n hne]; exact hbd i hi q
        refine br_c (fun _ => nm_r (nI_1 k) (ih (k + 1) _ _ (by omega) (by omega) ⟨by rw [e]; exact hbl, hd' _⟩)) (fun _ => ⟨vp_in_nI (by omega) (by decide), nm_e (nm_r (nI_1 k) (ih (k + 1) _ _ (by omega) (by omega) ⟨fun i hi => ?_, hd' _⟩))⟩)
        rw [e]
        by_cases c : i = k
        · rw [c, pk_us, sj_el_k, z]; rfl
        · rw [pk_un c]; exact hbl i hi
      · have hdk := hbd k h (by rw [sj_el_k]; exact z)
        have hDk := hD k h z
        rw [sj_ed_k] at hdk
        rw [hdk]
        refine ek_c (sj_sub0 hDk ht) (fun c => nm_r (nI_1 k) (ih (k + 1) _ _ (by omega) (by omega) ?_)) (fun c => ⟨vp_in_nI (by omega) (by decide), nm_e (nm_r (nI_1 k) (ih (k + 1) _ _ (by omega) (by omega) ?_))⟩)
        · have e := sj_el_same (L := L) (D := D) (t := t) (k := k) (Or.inr (by omega))
          refine ⟨by rw [e]; exact hbl, ?_⟩
          rw [e]
          intro i hi q
          by_cases d : i = k
          · subst d
            rw [pk_us, sj_ed_s, pk_sub c]
          · rw [pk_un d, sj_ed_n d]; exact hbd i hi q
        · have e := sj_el_drop (L := L) (D := D) (t := t) (k := k) (by omega)
          refine ⟨fun i hi => ?_, fun i hi q => ?_⟩
          · rw [e]
            by_cases d : i = k
            · subst d; rw [pk_us, sj_us]; rfl
            · rw [pk_un d, sj_un d]; exact hbl i hi
          · have hne : i ≠ k := fun d => q (by rw [e, d, sj_us])
            rw [pk_un hne, sj_ed_n hne]
            exact hbd i hi (by rw [e, sj_un hne] at q; exact q)
end
