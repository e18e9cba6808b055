/-! SPECS 31: the model's rows are written -/
set_option maxRecDepth 100000
theorem upd_upd (F : Nat → Int32) (k : Nat) (x y : Int32) : upd (upd F k x) k y = upd F k y := by
  funext j
  by_cases h : j = k <;> simp [upd, h]
/-- only these two arrays may differ -/
def V04 (V V' : Nat → Nat → Int32) : Prop := ∀ j, j ≠ 0 → j ≠ 4 → V' j = V j
theorem V04.rfl' {V : Nat → Nat → Int32} : V04 V V := fun _ _ _ => rfl
theorem V04.tr {V V1 V2 : Nat → Nat → Int32} (a : V04 V V1) (b : V04 V1 V2) : V04 V V2 := fun j h0 h4 => (b j h0 h4).trans (a j h0 h4)
theorem V04.up0 {V V1 : Nat → Nat → Int32} (a : V04 V V1) (f : Nat → Int32) : V04 V (up V1 0 f) := fun j h0 h4 => (up_ne _ _ h0).trans (a j h0 h4)
theorem V04.up4 {V V1 : Nat → Nat → Int32} (a : V04 V V1) (f : Nat → Int32) : V04 V (up V1 4 f) := fun j h0 h4 => (up_ne _ _ h4).trans (a j h0 h4)
/-- what stands ahead of the rows -/
def hd4 (A B : Nat → Int32) : Prop := B 1 = A 1 ∧ B 2 = A 2 ∧ B 3 = A 3 ∧ B 4 = A 4
section D31
variable {G : g_} {ad : Nat → Nat} {h : hp_} {V : Nat → Nat → Int32} {F : Nat → Int32}
theorem i56 (n : Nat) : (5 : Int32) + 6 * nI n = nI (5 + 6 * n) := by
  rw [show (6 : Int32) = nI 6 from rfl, nI_mul', show (5 : Int32) = nI 5 from rfl, nI_add']
theorem X3_takesOut_ (D : MD ad) {W : List (Nat → Int32)} {i : Nat} {fi : Nat → Int32} (A : RA W (V 0)) (hi : W[i]? = some fi) :
    Do_ G M_X3_takesOut [.ref (ad 6), .int (nI i)] (mk_ ad h V F) (RV fun h' => ∃ V', h' = mk_ ad h V' F ∧ V04 V V' ∧ RA (W.eraseIdx i) (V' 0) ∧ hd4 (V 0) (V' 0) ∧ ∀ k, k < 6 → V' 4 k = fi k) := by
  obtain ⟨a1, a2, a3⟩ := A
  have hil := (List.getElem?_eq_some_iff.mp hi).1
  -- the rows behind move
  have mv : ∀ (j p : Nat) (f O : Nat → Int32), 5 + 6 * (W.length - 1) - p = j → 5 + 6 * i ≤ p → p ≤ 5 + 6 * (W.length - 1) → f 0 = nI (W.length - 1) → (∀ q, 0 < q → q < 149 → f q = if 5 + 6 * i ≤ q ∧ q < p then V 0 (q + 6) else V 0 q) → (∀ k, k < 6 → O k = fi k) →
      Go_ G M_X3_takesOut 43 [some (.ref (ad 6)), none, some (.int (nI p))] [] (mk_ ad h (up (up V 4 O) 0 f) F) (RV fun h' => ∃ V', h' = mk_ ad h V' F ∧ V04 V V' ∧ RA (W.eraseIdx i) (V' 0) ∧ hd4 (V 0) (V' 0) ∧ ∀ k, k < 6 → V' 4 k = fi k) := by
    intro j
    induction j with
    | zero =>
      intro p f O hj h1 h2 f0 fq fO
      have hp : p = 5 + 6 * (W.length - 1) := by omega
      refine w_X3_takesOut_43 ⟨_, gfx mk6 rfl rfl, _, _, 0, mk0 D, ix_nI (j := 0) (by omega) (by omega), fun _ => ⟨rfl, _, rfl, (V04.rfl'.up4 O).up0 f, ?_, ?_, ?_⟩, fun c => ?_⟩
      · rw [up_at]
        refine ⟨?_, ?_, fun q g hg k hk => ?_⟩
        · rw [f0, List.length_eraseIdx, if_pos hil]
        · rw [List.length_eraseIdx, if_pos hil]; omega
        · rw [List.getElem?_eraseIdx] at hg
          by_cases hqi : q < i
          · rw [if_pos hqi] at hg
            rw [fq _ (by omega) (by omega), if_neg (by omega)]
            exact a3 q g hg k hk
          · rw [if_neg hqi] at hg
            have hql := (List.getElem?_eq_some_iff.mp hg).1
            rw [fq _ (by omega) (by omega), if_pos (by omega)]
            have := a3 (q + 1) g hg k hk
            rw [show 5 + 6 * q + k + 6 = 5 + 6 * (q + 1) + k from by omega]
            exact this
      · rw [up_at]
        refine ⟨?_, ?_, ?_, ?_⟩ <;> rw [fq _ (by omega) (by omega), if_neg (by omega)]
      · rw [up_ne _ _ (by omega), up_at]
        exact fO
      · rw [up_at, f0, i56] at c
        exact absurd ((nI_le' (by omega) (by omega)).mpr (by omega)) c
    | succ j ih =>
      intro p f O hj h1 h2 f0 fq fO
      refine w_X3_takesOut_43 ⟨_, gfx mk6 rfl rfl, _, _, 0, mk0 D, ix_nI (j := 0) (by omega) (by omega), fun c => ?_, fun c => ⟨_, gfx mk6 rfl rfl, _, gfx mk6 rfl rfl, _, _, p + 6, mk0 D, ?_, _, _, p, mk0 D, ix_nI (by omega) (by omega), ?_⟩⟩
      · rw [up_at, f0, i56] at c
        have := (nI_le' (by omega) (by omega)).mp c
        omega
      · rw [show nI p + 6 = nI (p + 6) from nI_add' p 6]
        exact ix_nI (by omega) (by omega)
      · rw [set0 D, up_up, up_at, show nI p + 1 = nI (p + 1) from nI_add' p 1]
        refine ih (p + 1) _ O (by omega) (by omega) (by omega) ?_ (fun q h3 h4 => ?_) fO
        · rw [upd_ne _ _ (by omega)]; exact f0
        · by_cases hqp : q = p
          · subst hqp
            rw [upd_at, if_pos (by omega), fq _ (by omega) (by omega), if_neg (by omega)]
          · rw [upd_ne _ _ hqp, fq q h3 h4]
            by_cases hc : 5 + 6 * i ≤ q ∧ q < p
            · rw [if_pos hc, if_pos (by omega)]
            · rw [if_neg hc, if_neg (by omega)]
  -- the entry is laid by
  have cp : ∀ (j k : Nat) (O : Nat → Int32), 6 - k = j → k ≤ 6 → (∀ q, q < k → O q = fi q) →
      Go_ G M_X3_takesOut 2 [some (.ref (ad 6)), some (.int (nI i)), some (.int (nI k))] [] (mk_ ad h (up V 4 O) F) (RV fun h' => ∃ V', h' = mk_ ad h V' F ∧ V04 V V' ∧ RA (W.eraseIdx i) (V' 0) ∧ hd4 (V 0) (V' 0) ∧ ∀ k, k < 6 → V' 4 k = fi k) := by
    intro j
    induction j with
    | zero =>
      intro k O hj hk fO
      obtain rfl : k = 6 := by omega
      refine w_X3_takesOut_2 ⟨fun _ => ⟨_, gfx mk6 rfl rfl, _, _, 0, mk0 D, ix_nI (j := 0) (by omega) (by omega), _, _, 0, mk0 D, ix_nI (j := 0) (by omega) (by omega), ?_⟩, fun c => absurd (by decide) c⟩
      rw [set0 D, i56]
      refine mv _ (5 + 6 * i) _ O rfl (Nat.le_refl _) (by omega) ?_ (fun q h3 h4 => ?_) fO
      · rw [upd_at, up_ne _ _ (by omega), a1]
        exact nI_sub' (b := 1) (by omega)
      · rw [upd_ne _ _ (by omega), up_ne _ _ (by omega), if_neg (by omega)]
    | succ j ih =>
      intro k O hj hk fO
      refine w_X3_takesOut_2 ⟨fun c => ?_, fun c => ⟨_, gfx mk6 rfl rfl, cax mk6, (X3_of_ D (by omega)).use ⟨_, _, k, mk4 D, ix_nI (by omega) (by omega), ?_⟩⟩⟩
      · have := (nI_le' (a := 6) (by omega) (by omega)).mp c
        omega
      · rw [set4 D, up_up, up_at, up_ne _ _ (by omega), show nI k + 1 = nI (k + 1) from nI_add' k 1]
        refine ih (k + 1) _ (by omega) (by omega) (fun q hq => ?_)
        by_cases hqk : q = k
        · subst hqk
          rw [upd_at]
          exact a3 i fi hi q (by omega)
        · rw [upd_ne _ _ hqk]; exact fO q (by omega)
  have e : mk_ ad h V F = mk_ ad h (up V 4 (V 4)) F := by
    rw [← set4 D]
    exact (hset_id (mk4 D)).symm
  refine e_X3_takesOut ?_
  rw [e]
  exact cp 6 0 (V 4) rfl (by omega) (fun q hq => absurd hq (by omega))
theorem X3_putsIn_ (D : MD ad) {W : List (Nat → Int32)} {p : Nat} (A : RA W (V 0)) (hl : W.length ≤ 23) (hp : p ≤ W.length) (h1 : ∀ (j : Nat) (f : Nat → Int32), j < p → W[j]? = some f → f 0 < V 4 0) (h2 : ∀ f, W[p]? = some f → ¬ f 0 < V 4 0) :
    Do_ G M_X3_putsIn [.ref (ad 6)] (mk_ ad h V F) (RI fun y h' => y = nI p ∧ ∃ V', h' = mk_ ad h V' F ∧ V04 V V' ∧ RA (W.insertIdx p (V 4)) (V' 0) ∧ hd4 (V 0) (V' 0)) := by
  obtain ⟨a1, a2, a3⟩ := A
  have hlen : (W.insertIdx p (V 4)).length = W.length + 1 := List.length_insertIdx_of_le_length hp _
  -- the new one is written
  have wr : ∀ (j k : Nat) (f : Nat → Int32), 6 - k = j → k ≤ 6 → f 0 = nI (W.length + 1) → (∀ q, 0 < q → q < 149 → (q < 5 + 6 * p → f q = V 0 q) ∧ (5 + 6 * p + 6 ≤ q → q < 5 + 6 * W.length + 6 → f q = V 0 (q - 6)) ∧ (5 + 6 * p ≤ q → q < 5 + 6 * p + k → f q = V 4 (q - (5 + 6 * p)))) →
      Go_ G M_X3_putsIn 90 [some (.ref (ad 6)), some (.int (nI p)), some (.int (nI k))] [] (mk_ ad h (up V 0 f) F) (RI fun y h' => y = nI p ∧ ∃ V', h' = mk_ ad h V' F ∧ V04 V V' ∧ RA (W.insertIdx p (V 4)) (V' 0) ∧ hd4 (V 0) (V' 0)) := by
    intro j
    induction j with
    | zero =>
      intro k f hj hk f0 fq
      obtain rfl : k = 6 := by omega
      refine w_X3_putsIn_90 ⟨fun _ => ⟨_, rfl, rfl, _, rfl, V04.rfl'.up0 f, ?_, ?_⟩, fun c => absurd (by decide) c⟩
      · rw [up_at]
        refine ⟨by rw [f0, hlen], by rw [hlen]; omega, fun q g hg k hk => ?_⟩
        have hql := (List.getElem?_eq_some_iff.mp hg).1
        rw [hlen] at hql
        rcases Nat.lt_trichotomy q p with hqp | hqp | hqp
        · rw [List.getElem?_insertIdx_of_lt hqp] at hg
          rw [(fq (5 + 6 * q + k) (by omega) (by omega)).1 (by omega)]
          exact a3 q g hg k hk
        · subst hqp
          rw [List.getElem?_insertIdx_self, if_pos hp] at hg
          rw [← Option.some.inj hg, (fq (5 + 6 * q + k) (by omega) (by omega)).2.2 (by omega) (by omega), show 5 + 6 * q + k - (5 + 6 * q) = k from by omega]
        · rw [List.getElem?_insertIdx_of_gt hqp] at hg
          rw [(fq (5 + 6 * q + k) (by omega) (by omega)).2.1 (by omega) (by omega), show 5 + 6 * q + k - 6 = 5 + 6 * (q - 1) + k from by omega]
          exact a3 (q - 1) g hg k hk
      · rw [up_at]
        refine ⟨?_, ?_, ?_, ?_⟩ <;> exact (fq _ (by omega) (by omega)).1 (by omega)
    | succ j ih =>
      intro k f hj hk f0 fq
      refine w_X3_putsIn_90 ⟨fun c => ?_, fun c => ⟨_, gfx mk6 rfl rfl, _, _, k, mk4 D, ix_nI (by omega) (by omega), cax mk6, (X3_sets_ D (by omega)).use ?_⟩⟩
      · have := (nI_le' (a := 6) (by omega) (by omega)).mp c
        omega
      · rw [up_up, up_at, up_ne _ _ (by omega), show nI k + 1 = nI (k + 1) from nI_add' k 1]
        refine ih (k + 1) _ (by omega) (by omega) ?_ (fun q h3 h4 => ?_)
        · rw [upd_ne _ _ (by omega)]; exact f0
        · obtain ⟨q1, q2, q3⟩ := fq q h3 h4
          by_cases hqk : q = 5 + 6 * p + k
          · subst hqk
            rw [upd_at]
            exact ⟨fun c => by omega, fun c => by omega, fun _ _ => by rw [show 5 + 6 * p + k - (5 + 6 * p) = k from by omega]⟩
          · rw [upd_ne _ _ hqk]
            exact ⟨q1, q2, fun c d => q3 c (by omega)⟩
  -- the rows behind move
  have mv : ∀ (j t : Nat) (f : Nat → Int32), t = j + (5 + 6 * p) → t ≤ 5 + 6 * W.length → f 0 = nI W.length → (∀ q, 0 < q → q < 149 → (q < t → f q = V 0 q) ∧ (t + 6 ≤ q → q < 5 + 6 * W.length + 6 → f q = V 0 (q - 6))) →
      Go_ G M_X3_putsIn 47 [some (.ref (ad 6)), some (.int (nI p)), some (.int (nI t - 1))] [] (mk_ ad h (up V 0 f) F) (RI fun y h' => y = nI p ∧ ∃ V', h' = mk_ ad h V' F ∧ V04 V V' ∧ RA (W.insertIdx p (V 4)) (V' 0) ∧ hd4 (V 0) (V' 0)) := by
    intro j
    induction j with
    | zero =>
      intro t f ht h3 f0 fq
      rw [show nI t - 1 = nI (t - 1) from nI_sub' (b := 1) (by omega)]
      refine w_X3_putsIn_47 ⟨fun _ => ⟨_, gfx mk6 rfl rfl, _, _, 0, mk0 D, ix_nI (j := 0) (by omega) (by omega), _, _, 0, mk0 D, ix_nI (j := 0) (by omega) (by omega), ?_⟩, fun c => ?_⟩
      · rw [set0 D, up_up, up_at, f0, show nI W.length + 1 = nI (W.length + 1) from nI_add' _ 1]
        refine wr 6 0 _ rfl (by omega) (upd_at _ _ _) (fun q h5 h6 => ?_)
        obtain ⟨q1, q2⟩ := fq q h5 h6
        rw [upd_ne _ _ (by omega)]
        exact ⟨fun c => q1 (by omega), fun c d => q2 (by omega) d, fun c d => by omega⟩
      · rw [i56] at c
        exact absurd ((nI_lt' (by omega) (by omega)).mpr (by omega)) c
    | succ j ih =>
      intro t f ht h3 f0 fq
      rw [show nI t - 1 = nI (t - 1) from nI_sub' (b := 1) (by omega)]
      refine w_X3_putsIn_47 ⟨fun c => ?_, fun c => ⟨_, gfx mk6 rfl rfl, _, gfx mk6 rfl rfl, _, _, t - 1, mk0 D, ix_nI (by omega) (by omega), _, _, t - 1 + 6, mk0 D, ?_, ?_⟩⟩
      · rw [i56] at c
        have := (nI_lt' (by omega) (by omega)).mp c
        omega
      · rw [show nI (t - 1) + 6 = nI (t - 1 + 6) from nI_add' _ 6]
        exact ix_nI (by omega) (by omega)
      · rw [set0 D, up_up, up_at, show nI (t - 1) + -1 = nI (t - 1) - 1 from (Int32.sub_eq_add_neg _ _).symm]
        refine ih (t - 1) _ (by omega) (by omega) ?_ (fun q h5 h6 => ?_)
        · rw [upd_ne _ _ (by omega)]; exact f0
        · obtain ⟨q1, q2⟩ := fq q h5 h6
          by_cases hqk : q = t - 1 + 6
          · subst hqk
            rw [upd_at]
            refine ⟨fun c => by omega, fun _ _ => ?_⟩
            rw [(fq (t - 1) (by omega) (by omega)).1 (by omega)]
            rfl
          · rw [upd_ne _ _ hqk]
            exact ⟨fun c => q1 (by omega), fun c d => q2 (by omega) d⟩
  have e : mk_ ad h V F = mk_ ad h (up V 0 (V 0)) F := by
    rw [← set0 D]
    exact (hset_id (mk0 D)).symm
  have go47 : Go_ G M_X3_putsIn 47 [some (.ref (ad 6)), some (.int (nI p)), some (.int (nI (5 + 6 * W.length) - 1))] [] (mk_ ad h V F) (RI fun y h' => y = nI p ∧ ∃ V', h' = mk_ ad h V' F ∧ V04 V V' ∧ RA (W.insertIdx p (V 4)) (V' 0) ∧ hd4 (V 0) (V' 0)) := by
    rw [e]
    exact mv (5 + 6 * W.length - (5 + 6 * p)) (5 + 6 * W.length) (V 0) (by omega) (Nat.le_refl _) a1 (fun q _ _ => ⟨fun _ => rfl, fun c d => by omega⟩)
  -- the place is looked for
  have lk : ∀ (j i : Nat), p - i = j → i ≤ p → Go_ G M_X3_putsIn 2 [some (.ref (ad 6)), some (.int (nI i)), none] [] (mk_ ad h V F) (RI fun y h' => y = nI p ∧ ∃ V', h' = mk_ ad h V' F ∧ V04 V V' ∧ RA (W.insertIdx p (V 4)) (V' 0) ∧ hd4 (V 0) (V' 0)) := by
    intro j
    induction j with
    | zero =>
      intro i hj hi
      obtain rfl : i = p := by omega
      refine w_X3_putsIn_2 ⟨_, gfx mk6 rfl rfl, _, _, 0, mk0 D, ix_nI (j := 0) (by omega) (by omega), fun c => ⟨_, gfx mk6 rfl rfl, _, _, 0, mk0 D, ix_nI (j := 0) (by omega) (by omega), ?_⟩, fun c => ?_⟩
      · rw [a1, i56]; exact go47
      · rw [a1] at c
        have hil : i < W.length := by
          rcases Nat.lt_or_ge i W.length with q | q
          · exact q
          · exact absurd ((nI_le' (by omega) (by omega)).mpr q) c
        have hx : W[i]? = some W[i] := List.getElem?_eq_getElem hil
        refine ⟨cax mk6, (X3_of_ (w := 0) D (by omega)).use ⟨_, gfx mk6 rfl rfl, _, _, 0, mk4 D, ix_nI (j := 0) (by omega) (by omega), fun _ => ⟨_, gfx mk6 rfl rfl, _, _, 0, mk0 D, ix_nI (j := 0) (by omega) (by omega), ?_⟩, fun c2 => ?_⟩⟩
        · rw [a1, i56]; exact go47
        · rw [a3 i _ hx 0 (by omega)] at c2
          exact absurd (Int32.not_lt.mp (h2 _ hx)) c2
    | succ j ih =>
      intro i hj hi
      have hx : W[i]? = some W[i] := List.getElem?_eq_getElem (by omega)
      refine w_X3_putsIn_2 ⟨_, gfx mk6 rfl rfl, _, _, 0, mk0 D, ix_nI (j := 0) (by omega) (by omega), fun c => ?_, fun c => ⟨cax mk6, (X3_of_ (w := 0) D (by omega)).use ⟨_, gfx mk6 rfl rfl, _, _, 0, mk4 D, ix_nI (j := 0) (by omega) (by omega), fun c2 => ?_, fun c2 => ?_⟩⟩⟩
      · rw [a1] at c
        have := (nI_le' (by omega) (by omega)).mp c
        omega
      · rw [a3 i _ hx 0 (by omega)] at c2
        exact absurd (h1 i _ (by omega) hx) (Int32.not_lt.mpr c2)
      · rw [show nI i + 1 = nI (i + 1) from nI_add' i 1]
        exact ih (i + 1) (by omega) (by omega)
  exact e_X3_putsIn (lk p 0 rfl (Nat.zero_le _))
/-- a row with another text -/
def rtx (f : Nat → Int32) (s l m : Int32) : Nat → Int32 := upd (upd (upd f 2 s) 3 l) 4 m
theorem X3_laysText_ (D : MD ad) {W : List (Nat → Int32)} {i : Nat} {fi : Nat → Int32} {l m : Int32} (A : RA W (V 0)) (hi : W[i]? = some fi) :
    Do_ G M_X3_laysText [.ref (ad 6), .int (nI i), .int l, .int m] (mk_ ad h V F) (RV fun h' => ∃ V', h' = mk_ ad h V' F ∧ V04 V V' ∧ RA (W.set i (rtx fi (V 0 2) l m)) (V' 0) ∧ V' 0 1 = V 0 1 ∧ V' 0 2 = V 0 2 + l ∧ V' 0 3 = V 0 3 ∧ V' 0 4 = V 0 4) := by
  obtain ⟨a1, a2, a3⟩ := A
  have hil := (List.getElem?_eq_some_iff.mp hi).1
  refine e_X3_laysText ⟨_, gfx mk6 rfl rfl, _, _, 2, mk0 D, ix_nI (j := 2) (by omega) (by omega), cax mk6, (X3_sets_ (w := 2) D (by omega)).use ⟨cax mk6, (X3_sets_ (w := 3) D (by omega)).use ⟨cax mk6, (X3_sets_ (w := 4) D (by omega)).use ⟨_, gfx mk6 rfl rfl, _, _, 2, mk0 D, ix_nI (j := 2) (by omega) (by omega), _, _, 2, mk0 D, ix_nI (j := 2) (by omega) (by omega), ?_⟩⟩⟩⟩
  rw [set0 D]
  simp only [up_up, up_at]
  refine ⟨rfl, _, rfl, V04.rfl'.up0 _, ?_, ?_, ?_, ?_, ?_⟩
  · rw [up_at]
    refine ⟨?_, by rw [List.length_set]; exact a2, fun q g hg k hk => ?_⟩
    · rw [upd_ne _ _ (by omega), upd_ne _ _ (by omega), upd_ne _ _ (by omega), upd_ne _ _ (by omega), List.length_set]; exact a1
    · have hql := (List.getElem?_eq_some_iff.mp hg).1
      rw [List.length_set] at hql
      rw [List.getElem?_set] at hg
      rw [upd_ne _ _ (by omega)]
      by_cases hiq : i = q
      · subst hiq
        rw [if_pos rfl, if_pos hil] at hg
        rw [← Option.some.inj hg]
        unfold rtx
        have h0 := a3 i fi hi k hk
        by_cases k4 : k = 4
        · subst k4; rw [upd_at, upd_at]
        · rw [upd_ne _ _ (by omega), upd_ne _ _ k4]
          by_cases k3 : k = 3
          · subst k3; rw [upd_at, upd_at]
          · rw [upd_ne _ _ (by omega), upd_ne _ _ k3]
            by_cases k2 : k = 2
            · subst k2; rw [upd_at, upd_at]
            · rw [upd_ne _ _ (by omega), upd_ne _ _ k2]; exact h0
      · rw [if_neg hiq] at hg
        rw [upd_ne _ _ (by omega), upd_ne _ _ (by omega), upd_ne _ _ (by omega)]
        exact a3 q g hg k hk
  · rw [up_at, upd_ne _ _ (by omega), upd_ne _ _ (by omega), upd_ne _ _ (by omega), upd_ne _ _ (by omega)]
  · rw [up_at, upd_at, upd_ne _ _ (by omega), upd_ne _ _ (by omega), upd_ne _ _ (by omega)]
  · rw [up_at, upd_ne _ _ (by omega), upd_ne _ _ (by omega), upd_ne _ _ (by omega), upd_ne _ _ (by omega)]
  · rw [up_at, upd_ne _ _ (by omega), upd_ne _ _ (by omega), upd_ne _ _ (by omega), upd_ne _ _ (by omega)]
/-- the history -/
def HR (H : List sg_) (f : Nat → Int32) : Prop := ∀ (i : Nat) (σ : sg_), H[i]? = some σ → AR σ (fun k => f (149 * i + k))
theorem X3_acted_ (D : MD ad) {t : Int32} {H : List sg_} {σ : sg_} (hF : F 0 = nI H.length) (hH : H.length ≤ 4) (A : HR H (V 2)) (B : AR σ (V 1)) :
    Do_ G M_X3_acted [.ref (ad 6), .int t] (mk_ ad h V F) (RI fun y h' => y = t ∧ ∃ f, h' = mk_ ad h (up V 2 f) (upd F 0 (nI (pushH H σ).length)) ∧ HR (pushH H σ) f) := by
  -- the last copy
  have fin : ∀ (n : Nat) (H' : List sg_) (F' : Nat → Int32), H'.length = n → n ≤ 3 → F' 0 = nI n → pushH H σ = H' ++ [σ] → (∀ x, upd F' 0 x = upd F 0 x) →
      ∀ (j k : Nat) (f : Nat → Int32), 149 - k = j → k ≤ 149 → HR H' f → (∀ q, q < k → f (149 * n + q) = V 1 q) →
      Go_ G M_X3_acted 51 [some (.ref (ad 6)), some (.int t), some (.int (nI k))] [] (mk_ ad h (up V 2 f) F') (RI fun y h' => y = t ∧ ∃ f, h' = mk_ ad h (up V 2 f) (upd F 0 (nI (pushH H σ).length)) ∧ HR (pushH H σ) f) := by
    intro n H' F' hn hn3 hF' hpu hup j
    induction j with
    | zero =>
      intro k f hj hk hr hq
      obtain rfl : k = 149 := by omega
      refine w_X3_acted_51 ⟨fun _ => ⟨_, gfx mk6 rfl rfl, _, p_hl D, _, rfl, rfl, f, ?_, ?_⟩, fun c => absurd (by decide) c⟩
      · rw [hup, hF', hpu, List.length_append, List.length_singleton, hn]
        rw [show nI n + 1 = nI (n + 1) from nI_add' n 1]
      · rw [hpu]
        intro i τ hi
        rcases snoc_cases hi with ⟨c1, c2⟩ | ⟨rfl, rfl⟩
        · exact hr i τ c2
        · rw [hn]
          exact B.cong (fun q hq' => hq q hq')
    | succ j ih =>
      intro k f hj hk hr hq
      refine w_X3_acted_51 ⟨fun c => ?_, fun c => ⟨_, gfx mk6 rfl rfl, _, gfx mk6 rfl rfl, _, gfx mk6 rfl rfl, _, _, k, mk1 D, ix_nI (by omega) (by omega), _, _, 149 * n + k, mk2 D, ?_, ?_⟩⟩
      · have := (nI_le' (a := 149) (by omega) (by omega)).mp c
        omega
      · rw [hF', show (149 : Int32) = nI 149 from rfl, nI_mul', nI_add']
        exact ix_nI (by omega) (by omega)
      · rw [set2 D, up_up, up_at, up_ne _ _ (by omega), show nI k + 1 = nI (k + 1) from nI_add' k 1]
        refine ih (k + 1) _ (by omega) (by omega) (fun i τ hi => ?_) (fun q hq' => ?_)
        · have hil := (List.getElem?_eq_some_iff.mp hi).1
          exact (hr i τ hi).cong (fun q hq' => by rw [upd_ne _ _ (by omega)])
        · by_cases hqk : q = k
          · subst hqk; rw [upd_at]
          · rw [upd_ne _ _ (by omega)]; exact hq q (by omega)
  have e : mk_ ad h V F = mk_ ad h (up V 2 (V 2)) F := by
    rw [← set2 D]
    exact (hset_id (mk2 D)).symm
  refine e_X3_acted ⟨_, gfx mk6 rfl rfl, fun c => ?_, fun c => ?_⟩
  · have hne : ¬ H.length = 4 := fun q => c (by rw [hF, q]; rfl)
    rw [e]
    exact fin H.length H F rfl (by omega) hF (by unfold pushH; rw [if_neg hne]) (fun x => rfl) 149 0 (V 2) rfl (by omega) A (fun q hq => absurd hq (by omega))
  · have he : H.length = 4 := by
      have := Classical.not_not.mp c
      rw [hF] at this
      exact (nI_eq' (b := 4) (by omega) (by omega)).mp this
    -- the eldest is left out
    have sh : ∀ (j k : Nat) (f : Nat → Int32), 447 - k = j → k ≤ 447 → (∀ q, q < 596 → f q = if q < k then V 2 (q + 149) else V 2 q) →
        Go_ G M_X3_acted 10 [some (.ref (ad 6)), some (.int t), some (.int (nI k))] [] (mk_ ad h (up V 2 f) F) (RI fun y h' => y = t ∧ ∃ f, h' = mk_ ad h (up V 2 f) (upd F 0 (nI (pushH H σ).length)) ∧ HR (pushH H σ) f) := by
      intro j
      induction j with
      | zero =>
        intro k f hj hk fq
        obtain rfl : k = 447 := by omega
        refine w_X3_acted_10 ⟨fun _ => ⟨_, gfx mk6 rfl rfl, _, p_hl D, ?_⟩, fun c => absurd (by decide) c⟩
        refine fin 3 H.tail _ (by rw [List.length_tail, he]) (by omega) ?_ ?_ (fun x => upd_upd _ _ _ _) 149 0 f rfl (by omega) (fun i τ hi => ?_) (fun q hq => absurd hq (by omega))
        · rw [upd_at, hF, he]; decide
        · unfold pushH
          rw [if_pos he]
          cases H with
          | nil => simp at he
          | cons a H => rfl
        · rw [List.getElem?_tail] at hi
          have hil := (List.getElem?_eq_some_iff.mp hi).1
          refine (A (i + 1) τ hi).cong (fun q hq => ?_)
          rw [fq _ (by omega), if_pos (by omega), show 149 * i + q + 149 = 149 * (i + 1) + q from by omega]
      | succ j ih =>
        intro k f hj hk fq
        refine w_X3_acted_10 ⟨fun c => ?_, fun c => ⟨_, gfx mk6 rfl rfl, _, gfx mk6 rfl rfl, _, _, k + 149, mk2 D, ?_, _, _, k, mk2 D, ix_nI (by omega) (by omega), ?_⟩⟩
        · have := (nI_le' (a := 447) (by omega) (by omega)).mp c
          omega
        · rw [show nI k + 149 = nI (k + 149) from nI_add' k 149]
          exact ix_nI (by omega) (by omega)
        · rw [set2 D, up_up, up_at, show nI k + 1 = nI (k + 1) from nI_add' k 1]
          refine ih (k + 1) _ (by omega) (by omega) (fun q hq => ?_)
          by_cases hqk : q = k
          · subst hqk
            rw [upd_at, if_pos (by omega), fq _ (by omega), if_neg (by omega)]
          · rw [upd_ne _ _ hqk, fq q hq]
            by_cases hc : q < k
            · rw [if_pos hc, if_pos (by omega)]
            · rw [if_neg hc, if_neg (by omega)]
    rw [e]
    exact sh 447 0 (V 2) rfl (by omega) (fun q _ => by rw [if_neg (by omega)])
end D31
