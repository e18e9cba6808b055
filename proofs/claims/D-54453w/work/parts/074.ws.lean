/-! SPECS 24: what a shelf's acts keep -/
set_option maxRecDepth 100000
def okR (T : List tt_) (r : rw_) : Prop := r.1 < 676 ∧ (∀ x, r.2.1 = some x → x < 676) ∧ r.2.2 ∈ T
theorem WS_mk {σ : sg_} (h1 : srt σ.1) (h2 : ∀ r ∈ σ.1, okR σ.2.1 r) (h3 : σ.1.length ≤ 4 * σ.2.2.1) (h4 : 1 ≤ σ.2.2.1) (h5 : σ.2.2.1 ≤ 6) (h6 : chn 0 σ.2.1) (h7 : tsum σ.2.1 ≤ 100) : WS σ := ⟨h1, h2, h3, h4, h5, h6, h7⟩
theorem okR.app {T U : List tt_} {r : rw_} (h : okR T r) : okR (T ++ U) r := ⟨h.1, h.2.1, List.mem_append_left _ h.2.2⟩
theorem chn_snoc {T : List tt_} {l m : Nat} (hc : chn 0 T) (hl : 1 ≤ l ∧ l ≤ 40) (hm9 : m ≤ 9999) : chn 0 (T ++ [(tsum T, l, m)]) := by
  rw [chn_app]
  exact ⟨hc, by rw [Nat.zero_add], hl.1, hl.2, hm9, trivial⟩
theorem tsum_snoc {T : List tt_} {s l m : Nat} : tsum (T ++ [(s, l, m)]) = tsum T + l := by
  rw [tsum_app]; rfl
theorem WS_add {σ : sg_} {x l m : Nat} (W : WS σ) (hx : x < 676) (hl : 1 ≤ l ∧ l ≤ 40) (hm9 : m ≤ 9999) : WS (addS σ x l m).2 := by
  unfold addS
  split
  · exact W
  · rename_i h1
    split
    · exact W
    · rename_i h2
      split
      · exact W
      · rename_i h3
        obtain ⟨w1, w2, w3, w4, w5, w6, w7⟩ := W
        have hn : look σ.1 (nI x) = none := by
          cases hq : look σ.1 (nI x) with
          | none => rfl
          | some i => rw [hq] at h1; simp at h1
        refine WS_mk (srt_insR w1 (fun r hr e => look_none hn r hr (by rw [e]))) (fun r hr => ?_) ?_ w4 w5 (chn_snoc w6 hl hm9) ?_
        · rcases mem_insR.mp hr with rfl | hr
          · exact ⟨hx, fun y hy => (by cases hy), List.mem_append_right _ (List.mem_singleton.mpr rfl)⟩
          · exact okR.app (w2 r hr)
        · rw [insR_len]
          show σ.1.length + 1 ≤ 4 * σ.2.2.1
          omega
        · rw [tsum_snoc]; omega
theorem srt_set {R : List rw_} {i : Nat} {r r' : rw_} (h : srt R) (hi : R[i]? = some r) (e : r'.1 = r.1) : srt (R.set i r') := by
  have hil := (List.getElem?_eq_some_iff.mp hi)
  obtain ⟨h1, h2⟩ := hil
  unfold srt
  rw [List.pairwise_iff_getElem]
  intro a b ha hb hab
  rw [List.length_set] at ha hb
  have hp := List.pairwise_iff_getElem.mp h a b ha hb hab
  rw [List.getElem_set, List.getElem_set]
  by_cases hia : i = a
  · subst hia
    rw [if_pos rfl, if_neg (by omega), e, ← h2]; exact hp
  · rw [if_neg hia]
    by_cases hib : i = b
    · subst hib
      rw [if_pos rfl, e, ← h2]; exact hp
    · rw [if_neg hib]; exact hp
theorem WS_rep {σ : sg_} {x : Int32} {l m : Nat} (W : WS σ) (hl : 1 ≤ l ∧ l ≤ 40) (hm9 : m ≤ 9999) : WS (repS σ x l m).2 := by
  unfold repS
  cases look σ.1 x with
  | none => exact W
  | some i =>
    dsimp only
    cases hr : σ.1[i]? with
    | none => exact W
    | some r =>
      dsimp only
      split
      · exact W
      · rename_i h3
        obtain ⟨w1, w2, w3, w4, w5, w6, w7⟩ := W
        refine WS_mk (srt_set w1 hr rfl) (fun q hq => ?_) (by show (σ.1.set i _).length ≤ _; rw [List.length_set]; exact w3) w4 w5 (chn_snoc w6 hl hm9) (by show tsum (σ.2.1 ++ _) ≤ 100; rw [tsum_snoc]; omega)
        rcases List.mem_or_eq_of_mem_set hq with hq | rfl
        · exact okR.app (w2 q hq)
        · have := w2 r (List.mem_of_getElem? hr)
          exact ⟨this.1, this.2.1, List.mem_append_right _ (List.mem_singleton.mpr rfl)⟩
theorem ers_ne {R : List rw_} {j : Nat} {a : Int32} (hs : srt R) (hk : ∀ r ∈ R, r.1 < 676) (hj : look R a = some j) {r : rw_} (hr : r ∈ R.eraseIdx j) : nI r.1 ≠ a := by
  intro e
  rw [List.mem_eraseIdx_iff_getElem?] at hr
  obtain ⟨k, hkj, hk'⟩ := hr
  obtain ⟨r', h1, h2, -⟩ := look_some hj
  have a1 := hk r (List.mem_of_getElem? hk')
  have a2 := hk r' (List.mem_of_getElem? h1)
  have : r.1 = r'.1 := (nI_eq' (by omega) (by omega)).mp (by rw [e, h2])
  exact hkj (srt_inj hs hk' h1 this)
theorem memb_mem {R : List rw_} {x : Int32} {r : rw_} (h : memb R x = some r) : r ∈ R ∧ r.2.1 = none ∧ nI r.1 = x := by
  unfold memb at h
  cases hk : look R x with
  | none => rw [hk] at h; cases h
  | some i =>
    rw [hk] at h
    obtain ⟨q, h1, h2, -⟩ := look_some hk
    simp only [h1] at h
    by_cases hq : q.2.1.isSome = true
    · rw [if_pos hq] at h; cases h
    · rw [if_neg hq] at h
      cases h
      refine ⟨List.mem_of_getElem? h1, ?_, h2⟩
      cases hg : r.2.1 with
      | none => rfl
      | some _ => rw [hg] at hq; simp at hq
theorem WS_alias {σ : sg_} {a x : Nat} (W : WS σ) (ha : a < 676) (hx : x < 676) : WS (aliasS σ a x).2 := by
  have W0 := W
  obtain ⟨w1, w2, w3, w4, w5, w6, w7⟩ := W
  unfold aliasS
  cases hm : memb σ.1 (nI x) with
  | none => exact W0
  | some r =>
    have hr := memb_mem hm
    have hok : okR σ.2.1 (a, some x, r.2.2) := ⟨ha, fun y hy => by rw [← Option.some.inj (show some x = some y from hy)]; exact hx, (w2 r hr.1).2.2⟩
    dsimp only
    cases hl : look σ.1 (nI a) with
    | none =>
      dsimp only
      split
      · exact W0
      · rename_i h2
        refine WS_mk (srt_insR w1 (fun q hq e => look_none hl q hq (by rw [e]))) (fun q hq => ?_) (by rw [insR_len]; show σ.1.length + 1 ≤ 4 * σ.2.2.1; omega) w4 w5 w6 w7
        rcases mem_insR.mp hq with rfl | hq
        · exact hok
        · exact w2 q hq
    | some j =>
      dsimp only
      cases hj : σ.1[j]? with
      | none => exact W0
      | some q =>
        have hjl := (List.getElem?_eq_some_iff.mp hj).1
        dsimp only
        split
        · split
          · exact W0
          · refine WS_mk (srt_insR (srt_ers w1) (fun u hu e => ers_ne w1 (fun z hz => (w2 z hz).1) hl hu (by rw [e]))) (fun u hu => ?_) (by rw [insR_len, List.length_eraseIdx, if_pos hjl]; show σ.1.length - 1 + 1 ≤ 4 * σ.2.2.1; omega) w4 w5 w6 w7
            rcases mem_insR.mp hu with rfl | hu
            · exact hok
            · exact w2 u (mem_ers hu)
        · exact W0
theorem WS_take {σ : sg_} {i : Nat} (W : WS σ) : WS (σ.1.eraseIdx i, σ.2) := by
  obtain ⟨w1, w2, w3, w4, w5, w6, w7⟩ := W
  refine WS_mk (srt_ers w1) (fun r hr => w2 r (mem_ers hr)) ?_ w4 w5 w6 w7
  show (σ.1.eraseIdx i).length ≤ 4 * σ.2.2.1
  rw [List.length_eraseIdx]
  split <;> omega
theorem WS_ren {σ : sg_} {i o y : Nat} (W : WS σ) (hy : y < 676) (hn : look σ.1 (nI y) = none) : WS (renS σ i o y) := by
  have W0 := W
  obtain ⟨w1, w2, w3, w4, w5, w6, w7⟩ := W
  unfold renS
  cases hr : σ.1[i]? with
  | none => exact W0
  | some r =>
    have hil := (List.getElem?_eq_some_iff.mp hr).1
    have okr := w2 r (List.mem_of_getElem? hr)
    refine WS_mk (srt_insR (srt_map (gvn_1 _ _ _) (srt_ers w1)) (fun q hq e => ?_)) (fun q hq => ?_) ?_ w4 w5 w6 w7
    · obtain ⟨z, hz, rfl⟩ := List.mem_map.mp hq
      rw [gvn_1] at e
      exact look_none hn z (mem_ers hz) (by rw [show z.1 = y from e])
    · rcases mem_insR.mp hq with rfl | hq
      · exact ⟨hy, okr.2.1, okr.2.2⟩
      · obtain ⟨z, hz, rfl⟩ := List.mem_map.mp hq
        have hk := w2 z (mem_ers hz)
        refine ⟨by rw [gvn_1]; exact hk.1, fun x hx => ?_, by rw [gvn_t]; exact hk.2.2⟩
        unfold gvn at hx
        split at hx
        · rw [← Option.some.inj (show some y = some x from hx)]; exact hy
        · exact hk.2.1 x hx
    · show (insR _ _).length ≤ _
      rw [insR_len, List.length_map, List.length_eraseIdx, if_pos hil]
      show σ.1.length - 1 + 1 ≤ 4 * σ.2.2.1
      omega
theorem relay_at {L : List tt_} {s i : Nat} {t : tt_} (h : L[i]? = some t) : (relay s L)[i]? = some (s + tsum (L.take i), t.2) := by
  induction L generalizing s i with
  | nil => simp at h
  | cons a L ih =>
    cases i with
    | zero =>
      have : a = t := by simpa using h
      subst this
      simp [relay, tsum]
    | succ i =>
      have := ih (s := s + a.2.1) (i := i) (by simpa using h)
      simp only [relay, List.getElem?_cons_succ, List.take_succ_cons, tsum]
      rw [this, Nat.add_assoc]
theorem livT_row {R : List rw_} {T : List tt_} {r : rw_} (hr : r ∈ R) (ht : r.2.2 ∈ T) : r.2.2 ∈ livT R T := by
  unfold livT
  refine List.mem_filter.mpr ⟨ht, ?_⟩
  unfold pts
  rw [List.any_eq_true]
  exact ⟨r, hr, by simp⟩
theorem WS_sqz {σ : sg_} (W : WS σ) : WS (sqzS σ).2 := by
  obtain ⟨w1, w2, w3, w4, w5, w6, w7⟩ := W
  have hpw := livT_pw (R := σ.1) w6
  refine WS_mk (srt_map (fun r => rfl) w1) (fun r hr => ?_) (by show (σ.1.map _).length ≤ _; rw [List.length_map]; exact w3) w4 w5 (chn_relay 0 (fun t ht => chn_tok w6 t (List.mem_filter.mp ht).1)) ?_
  · obtain ⟨q, hq, rfl⟩ := List.mem_map.mp hr
    have hk := w2 q hq
    refine ⟨hk.1, hk.2.1, ?_⟩
    obtain ⟨i, hi⟩ := List.getElem?_of_mem (livT_row hq hk.2.2)
    have h1 := relay_at (s := 0) hi
    rw [Nat.zero_add, ← nst_at hpw hi] at h1
    exact List.mem_of_getElem? h1
  · show tsum (relay 0 _) ≤ 100
    rw [tsum_relay]
    have := tsum_filter_le (fun t => pts σ.1 t.1) σ.2.1
    unfold livT
    omega
