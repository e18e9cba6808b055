/-! SPECS 34: the model's pad, history; its texts in their order -/
set_option maxRecDepth 100000
/-- what is the row of the next text -/
def nxt (R : List rw_) (s : Nat) (o : Option Nat) : Prop := match o with
  | none => ∀ r ∈ R, r.2.2.1 < s
  | some i => ∃ r, R[i]? = some r ∧ s ≤ r.2.2.1 ∧ ∀ q ∈ R, s ≤ q.2.2.1 → r.2.2.1 ≤ q.2.2.1
section D34
variable {G : g_} {ad : Nat → Nat} {h : hp_} {V : Nat → Nat → Int32} {F : Nat → Int32} {S : st_}
theorem X3_type_ {c : Nat} (D : MD ad) (M : MS S V F) (W : WSS S) : Do_ G M_X3_type [.ref (ad 6), .int (nI c)] (mk_ ad h V F) (PM ad h (typA S c)) := by
  have M0 := M
  obtain ⟨m1, m2, m3, m4, m5, m6⟩ := M
  have hP := W.2.2.2.2.1
  refine e_X3_type ⟨_, gfx mk6 rfl rfl, ?_⟩
  rw [m5]
  refine ⟨fun c1 => ⟨_, gfx mk6 rfl rfl, _, gfx mk6 rfl rfl, _, _, S.2.2.2.length, mk5 D, ?_, ?_⟩, fun c1 => ?_⟩
  · have hne : ¬ S.2.2.2.length = 60 := fun e => c1 (by rw [e]; rfl)
    rw [m5]
    exact ix_nI (by omega) (by omega)
  · have hne : ¬ S.2.2.2.length = 60 := fun e => c1 (by rw [e]; rfl)
    rw [set5 D]
    refine ⟨_, gfx mk6 rfl rfl, _, p_pl D, _, gfx mk6 rfl rfl, ?_⟩
    have et : typA S c = (nI (S.2.2.2.length + 1), (S.1, S.2.1, S.2.2.1, S.2.2.2 ++ [c])) := by unfold typA; rw [if_neg hne]
    rw [et]
    refine ⟨_, rfl, ?_, _, _, rfl, ?_, ?_, ?_, ?_, ?_, ?_⟩
    · rw [upd_at, m5]
      exact nI_add' _ 1
    · rw [up_ne _ _ (by omega)]; exact m1
    · rw [upd_ne _ _ (by omega)]; exact m2
    · rw [up_ne _ _ (by omega)]; exact m3
    · rw [upd_ne _ _ (by omega), up_ne _ _ (by omega)]; exact m4
    · rw [upd_at, m5]
      show _ = nI (S.2.2.2 ++ [c]).length
      rw [List.length_append, List.length_singleton]
      exact nI_add' _ 1
    · intro i x hx
      rw [up_at]
      rcases snoc_cases hx with ⟨a1, a2⟩ | ⟨rfl, rfl⟩
      · rw [upd_ne _ _ (by omega)]; exact m6 i x a2
      · rw [upd_at]
  · have he : S.2.2.2.length = 60 := (nI_eq' (b := 60) (by omega) (by omega)).mp (Classical.not_not.mp c1)
    exact PM.no M0 (by unfold typA; rw [if_pos he])
theorem X3_clearPad_ (D : MD ad) (M : MS S V F) : Do_ G M_X3_clearPad [.ref (ad 6)] (mk_ ad h V F) (PM ad h (clrA S)) := by
  obtain ⟨m1, m2, m3, m4, m5, m6⟩ := M
  refine e_X3_clearPad ⟨_, gfx mk6 rfl rfl, _, p_pl D, _, rfl, m5, _, _, rfl, m1, ?_, m3, ?_, ?_, fun i x hx => by simp [clrA] at hx⟩
  · rw [upd_ne _ _ (by omega)]; exact m2
  · rw [upd_ne _ _ (by omega)]; exact m4
  · rw [upd_at]; rfl
theorem X3_undo_ (D : MD ad) (M : MS S V F) (W : WSS S) : Do_ G M_X3_undo [.ref (ad 6)] (mk_ ad h V F) (PM ad h (undA S)) := by
  have M0 := M
  obtain ⟨m1, m2, m3, m4, m5, m6⟩ := M
  have hH := W.2.2.2.1
  refine e_X3_undo ⟨_, gfx mk6 rfl rfl, ?_⟩
  rw [m2]
  refine ⟨fun c => ⟨_, gfx mk6 rfl rfl, _, p_hl D, ?_⟩, fun c => ?_⟩
  · have hne : S.2.2.1 ≠ [] := fun e => c (by rw [e]; rfl)
    have hpos : 0 < S.2.2.1.length := List.length_pos_iff.mpr hne
    have hgl : S.2.2.1.getLast? = some (S.2.2.1.getLast hne) := List.getLast?_eq_some_getLast hne
    have hlast : S.2.2.1[S.2.2.1.length - 1]? = some (S.2.2.1.getLast hne) := by rw [← List.getLast?_eq_getElem?]; exact hgl
    have eF : F 0 - 1 = nI (S.2.2.1.length - 1) := by rw [m2]; exact nI_sub' (b := 1) (by omega)
    rw [eF]
    have Al := m3 _ _ hlast
    have key : ∀ (j k : Nat) (f : Nat → Int32), 149 - k = j → k ≤ 149 → (∀ q, q < k → f q = V 2 (149 * (S.2.2.1.length - 1) + q)) →
        Go_ G M_X3_undo 22 [some (.ref (ad 6)), some (.int (nI k))] [] (mk_ ad h (up V 0 f) (upd F 0 (nI (S.2.2.1.length - 1)))) (PM ad h (undA S)) := by
      intro j
      induction j with
      | zero =>
        intro k f hj hk fq
        obtain rfl : k = 149 := by omega
        refine w_X3_undo_22 ⟨fun _ => ⟨_, gfx mk6 rfl rfl, ?_⟩, fun c => absurd (by decide) c⟩
        have et : undA S = (nI (S.2.2.1.length - 1), (S.2.2.1.getLast hne, S.2.1, S.2.2.1.dropLast, S.2.2.2)) := by unfold undA; rw [hgl]
        rw [et]
        refine ⟨_, rfl, by rw [upd_at], _, _, rfl, ?_, ?_, ?_, ?_, ?_, ?_⟩
        · rw [up_at]; exact Al.cong fq
        · rw [upd_at]
          show _ = nI S.2.2.1.dropLast.length
          rw [List.length_dropLast]
        · rw [up_ne _ _ (by omega)]
          intro i τ hi
          have hi : S.2.2.1.dropLast[i]? = some τ := hi
          have hl := (List.getElem?_eq_some_iff.mp hi).1
          refine m3 i τ ?_
          have e9 : S.2.2.1 = S.2.2.1.dropLast ++ [S.2.2.1.getLast hne] := (List.dropLast_concat_getLast _).symm
          rw [e9, List.getElem?_append_left hl]
          exact hi
        · rw [upd_ne _ _ (by omega), up_ne _ _ (by omega)]; exact m4
        · rw [upd_ne _ _ (by omega)]; exact m5
        · rw [up_ne _ _ (by omega)]; exact m6
      | succ j ih =>
        intro k f hj hk fq
        refine w_X3_undo_22 ⟨fun c => ?_, fun c => ⟨_, gfx mk6 rfl rfl, _, gfx mk6 rfl rfl, _, gfx mk6 rfl rfl, _, _, 149 * (S.2.2.1.length - 1) + k, mk2 D, ?_, _, _, k, mk0 D, ix_nI (by omega) (by omega), ?_⟩⟩
        · have := (nI_le' (a := 149) (by omega) (by omega)).mp c
          omega
        · rw [upd_at, show (149 : Int32) = nI 149 from rfl, nI_mul', nI_add']
          exact ix_nI (by omega) (by omega)
        · rw [set0 D, up_up, up_at, up_ne _ _ (by omega), show nI k + 1 = nI (k + 1) from nI_add' k 1]
          refine ih (k + 1) _ (by omega) (by omega) (fun q hq => ?_)
          by_cases hqk : q = k
          · subst hqk; rw [upd_at]
          · rw [upd_ne _ _ hqk]; exact fq q (by omega)
    have e : mk_ ad h V (upd F 0 (nI (S.2.2.1.length - 1))) = mk_ ad h (up V 0 (V 0)) (upd F 0 (nI (S.2.2.1.length - 1))) := by
      rw [← set0 D]
      exact (hset_id (mk0 D)).symm
    rw [e]
    exact key 149 0 (V 0) rfl (by omega) (fun q hq => absurd hq (by omega))
  · have he : S.2.2.1.length = 0 := (nI_eq' (b := 0) (by omega) (by omega)).mp (Classical.not_not.mp c)
    have he2 : S.2.2.1 = [] := List.length_eq_zero_iff.mp he
    exact PM.no M0 (by unfold undA; rw [he2]; rfl)
theorem X3_keep_ (D : MD ad) (M : MS S V F) : Do_ G M_X3_keep [.ref (ad 6)] (mk_ ad h V F) (PM ad h (kepA S)) := by
  obtain ⟨m1, m2, m3, m4, m5, m6⟩ := M
  have key : ∀ (j k : Nat) (f : Nat → Int32), 149 - k = j → k ≤ 149 → (∀ q, q < k → f q = V 0 q) →
      Go_ G M_X3_keep 2 [some (.ref (ad 6)), some (.int (nI k))] [] (mk_ ad h (up V 3 f) F) (PM ad h (kepA S)) := by
    intro j
    induction j with
    | zero =>
      intro k f hj hk fq
      obtain rfl : k = 149 := by omega
      refine w_X3_keep_2 ⟨fun _ => ⟨_, p_tk D, _, gfx mk6 rfl rfl, _, _, 0, mk0 D, ix_nI (j := 0) (by omega) (by omega), _, rfl, ?_, _, _, rfl, ?_, ?_, ?_, Or.inr ⟨S.1, rfl, upd_at _ _ _, ?_⟩, ?_, ?_⟩, fun c => absurd (by decide) c⟩
      · rw [up_ne _ _ (by omega)]; exact m1.len.1
      · rw [up_ne _ _ (by omega)]; exact m1
      · rw [upd_ne _ _ (by omega)]; exact m2
      · rw [up_ne _ _ (by omega)]; exact m3
      · rw [up_at]; exact m1.cong fq
      · rw [upd_ne _ _ (by omega)]; exact m5
      · rw [up_ne _ _ (by omega)]; exact m6
    | succ j ih =>
      intro k f hj hk fq
      refine w_X3_keep_2 ⟨fun c => ?_, fun c => ⟨_, gfx mk6 rfl rfl, _, gfx mk6 rfl rfl, _, _, k, mk0 D, ix_nI (by omega) (by omega), _, _, k, mk3 D, ix_nI (by omega) (by omega), ?_⟩⟩
      · have := (nI_le' (a := 149) (by omega) (by omega)).mp c
        omega
      · rw [set3 D, up_up, up_at, up_ne _ _ (by omega), show nI k + 1 = nI (k + 1) from nI_add' k 1]
        refine ih (k + 1) _ (by omega) (by omega) (fun q hq => ?_)
        by_cases hqk : q = k
        · subst hqk; rw [upd_at]
        · rw [upd_ne _ _ hqk]; exact fq q (by omega)
  have e : mk_ ad h V F = mk_ ad h (up V 3 (V 3)) F := by
    rw [← set3 D]
    exact (hset_id (mk3 D)).symm
  refine e_X3_keep ?_
  rw [e]
  exact key 149 0 (V 3) rfl (by omega) (fun q hq => absurd hq (by omega))
theorem X3_restore_ (D : MD ad) (M : MS S V F) (W : WSS S) : Do_ G M_X3_restore [.ref (ad 6)] (mk_ ad h V F) (PM ad h (resA S)) := by
  rcases M.2.2.2.1 with ⟨b1, b2⟩ | ⟨σ, b1, b2, b3⟩
  · refine e_X3_restore ⟨_, gfx mk6 rfl rfl, fun c => absurd b2 c, fun c => PM.no M (by unfold resA; rw [b1])⟩
  · refine e_X3_restore ⟨_, gfx mk6 rfl rfl, fun _ => ⟨cax mk6, (X3_remember_ D).rv ?_⟩, fun c => absurd (by rw [b2]; decide) c⟩
    rintro h1 - - ⟨f, e1, ff⟩
    rw [e1]; clear e1
    have key : ∀ (j k : Nat) (g : Nat → Int32), 149 - k = j → k ≤ 149 → (∀ q, q < k → g q = V 3 q) →
        Go_ G M_X3_restore 16 [some (.ref (ad 6)), some (.int (nI k))] [] (mk_ ad h (up (up V 1 f) 0 g) F) (PM ad h (resA S)) := by
      intro j
      induction j with
      | zero =>
        intro k g hj hk fq
        obtain rfl : k = 149 := by omega
        have A2 : AR σ ((up (up V 1 f) 0 g) 0) := by rw [up_at]; exact b3.cong fq
        refine w_X3_restore_16 ⟨fun _ => ⟨_, gfx mk6 rfl rfl, _, _, 0, mk0 D, ix_nI (j := 0) (by omega) (by omega), cax mk6, ?_⟩, fun c => absurd (by decide) c⟩
        rw [A2.len.1]
        exact PM.act D M W A2 (by rw [up_ne _ _ (by omega), up_at]; exact M.1.cong ff) (by rw [up_ne _ _ (by omega), up_ne _ _ (by omega)]) (by rw [up_ne _ _ (by omega), up_ne _ _ (by omega)]) (by rw [up_ne _ _ (by omega), up_ne _ _ (by omega)]) (by unfold resA; rw [b1])
      | succ j ih =>
        intro k g hj hk fq
        refine w_X3_restore_16 ⟨fun c => ?_, fun c => ⟨_, gfx mk6 rfl rfl, _, gfx mk6 rfl rfl, _, _, k, mk3 D, ix_nI (by omega) (by omega), _, _, k, mk0 D, ix_nI (by omega) (by omega), ?_⟩⟩
        · have := (nI_le' (a := 149) (by omega) (by omega)).mp c
          omega
        · rw [set0 D, up_up, up_at, up_ne _ _ (by omega), up_ne _ _ (by omega), show nI k + 1 = nI (k + 1) from nI_add' k 1]
          refine ih (k + 1) _ (by omega) (by omega) (fun q hq => ?_)
          by_cases hqk : q = k
          · subst hqk; rw [upd_at]
          · rw [upd_ne _ _ hqk]; exact fq q (by omega)
    have e : mk_ ad h (up V 1 f) F = mk_ ad h (up (up V 1 f) 0 ((up V 1 f) 0)) F := by
      rw [← set0 D]
      exact (hset_id (mk0 D)).symm
    rw [e]
    exact key 149 0 _ rfl (by omega) (fun q hq => absurd hq (by omega))
theorem X3_nextText_ (D : MD ad) {R : List rw_} {s : Nat} (A : RA (R.map rf) (V 0)) (hb : ∀ r ∈ R, r.2.2.1 < 1000) (hs : s < 1000) :
    Do_ G M_X3_nextText [.ref (ad 6), .int (nI s)] (mk_ ad h V F) (RI fun y h' => h' = mk_ ad h V F ∧ ∃ o, y = orI o ∧ nxt R s o) := by
  obtain ⟨a1, a2, a3⟩ := A
  rw [List.length_map] at a1 a2
  have at2 : ∀ (i : Nat) (r : rw_), R[i]? = some r → V 0 (5 + 6 * i + 2) = nI r.2.2.1 := fun i r hr => a3 i (rf r) (by rw [List.getElem?_map, hr]; rfl) 2 (by omega)
  have key : ∀ (j i : Nat) (o : Option Nat), R.length - i = j → i ≤ R.length → nxt (R.take i) s o →
      Go_ G M_X3_nextText 5 [some (.ref (ad 6)), some (.int (nI s)), some (.int (orI o)), some (.int (nI i)), none] [] (mk_ ad h V F) (RI fun y h' => h' = mk_ ad h V F ∧ ∃ o, y = orI o ∧ nxt R s o) := by
    intro j
    induction j with
    | zero =>
      intro i o hj hi b
      rw [List.take_of_length_le (by omega)] at b
      refine w_X3_nextText_5 ⟨_, gfx mk6 rfl rfl, _, _, 0, mk0 D, ix_nI (j := 0) (by omega) (by omega), fun _ => ⟨_, rfl, rfl, o, rfl, b⟩, fun c => ?_⟩
      rw [a1] at c
      exact absurd ((nI_le' (by omega) (by omega)).mpr (by omega)) c
    | succ j ih =>
      intro i o hj hi b
      have hx : R[i]? = some R[i] := List.getElem?_eq_getElem (by omega)
      have hxb := hb _ (List.mem_of_getElem? hx)
      have tk : R.take (i + 1) = R.take i ++ [R[i]] := by rw [List.take_add_one, hx]; rfl
      have memt : ∀ q ∈ R.take (i + 1), q ∈ R.take i ∨ q = R[i] := by
        intro q hq
        rw [tk] at hq
        rcases List.mem_append.mp hq with hq | hq
        · exact Or.inl hq
        · exact Or.inr (List.mem_singleton.mp hq)
      have keepO : nxt (R.take (i + 1)) s o → Go_ G M_X3_nextText 5 [some (.ref (ad 6)), some (.int (nI s)), some (.int (orI o)), some (.int (nI i + 1)), none] [] (mk_ ad h V F) (RI fun y h' => h' = mk_ ad h V F ∧ ∃ o, y = orI o ∧ nxt R s o) := by
        intro q
        rw [show nI i + 1 = nI (i + 1) from nI_add' i 1]
        exact ih (i + 1) o (by omega) (by omega) q
      have newO : nxt (R.take (i + 1)) s (some i) → Go_ G M_X3_nextText 5 [some (.ref (ad 6)), some (.int (nI s)), some (.int (nI i)), some (.int (nI i + 1)), none] [] (mk_ ad h V F) (RI fun y h' => h' = mk_ ad h V F ∧ ∃ o, y = orI o ∧ nxt R s o) := by
        intro q
        rw [show nI i + 1 = nI (i + 1) from nI_add' i 1]
        exact ih (i + 1) (some i) (by omega) (by omega) q
      have gi : (R.take (i + 1))[i]? = some R[i] := by rw [List.getElem?_take_of_lt (by omega)]; exact hx
      refine w_X3_nextText_5 ⟨_, gfx mk6 rfl rfl, _, _, 0, mk0 D, ix_nI (j := 0) (by omega) (by omega), fun c => ?_, fun c => ⟨cax mk6, (X3_of_ (w := 2) D (by omega)).use ?_⟩⟩
      · rw [a1] at c
        have := (nI_le' (by omega) (by omega)).mp c
        omega
      · rw [at2 i _ hx]
        refine ⟨fun c1 => ⟨fun _ => keepO ?_, fun c2 => absurd rfl c2⟩, fun c1 => ⟨fun c2 => ⟨fun c3 => absurd c3 (by decide), fun _ => newO ?_⟩, fun c2 => ?_⟩⟩
        · have hlt' := (nI_lt' (by omega) (by omega)).mp c1
          cases o with
          | none =>
            intro q hq
            rcases memt q hq with hq | rfl
            · exact b q hq
            · exact hlt'
          | some r =>
            obtain ⟨z, z1, z2, z3⟩ := b
            have hr := (List.getElem?_eq_some_iff.mp z1).1
            rw [List.length_take] at hr
            refine ⟨z, ?_, z2, fun q hq hsq => ?_⟩
            · rw [List.getElem?_take_of_lt (by omega)] at z1 ⊢; exact z1
            · rcases memt q hq with hq | rfl
              · exact z3 q hq hsq
              · omega
        · have hge : s ≤ R[i].2.2.1 := by
            rcases Nat.lt_or_ge R[i].2.2.1 s with q | q
            · exact absurd ((nI_lt' (by omega) (by omega)).mpr q) c1
            · exact q
          cases o with
          | none =>
            refine ⟨_, gi, hge, fun q hq hsq => ?_⟩
            rcases memt q hq with hq | rfl
            · have := b q hq; omega
            · exact Nat.le_refl _
          | some r =>
            obtain ⟨z, z1, z2, z3⟩ := b
            have hr := (List.getElem?_eq_some_iff.mp z1).1
            rw [List.length_take] at hr
            exact absurd c2 (nI_m5 (by omega))
        · have hge : s ≤ R[i].2.2.1 := by
            rcases Nat.lt_or_ge R[i].2.2.1 s with q | q
            · exact absurd ((nI_lt' (by omega) (by omega)).mpr q) c1
            · exact q
          cases o with
          | none => exact absurd rfl c2
          | some r =>
            obtain ⟨z, z1, z2, z3⟩ := b
            have hr := (List.getElem?_eq_some_iff.mp z1).1
            rw [List.length_take] at hr
            have z1' : R[r]? = some z := by rw [List.getElem?_take_of_lt (by omega)] at z1; exact z1
            have hzb := hb _ (List.mem_of_getElem? z1')
            refine ⟨cax mk6, (X3_of_ (w := 2) D (by omega)).use ⟨cax mk6, ?_⟩⟩
            refine (X3_of_ (r := r) (w := 2) D (by omega)).use ?_
            rw [at2 i _ hx, at2 r _ z1']
            refine ⟨fun c3 => ⟨fun _ => keepO ?_, fun c4 => absurd rfl c4⟩, fun c3 => ⟨fun c4 => absurd c4 (by decide), fun _ => newO ?_⟩⟩
            · have hle := (nI_le' (by omega) (by omega)).mp c3
              refine ⟨z, by rw [List.getElem?_take_of_lt (by omega)]; exact z1', z2, fun q hq hsq => ?_⟩
              rcases memt q hq with hq | rfl
              · exact z3 q hq hsq
              · exact hle
            · have hgt : R[i].2.2.1 < z.2.2.1 := by
                rcases Nat.lt_or_ge R[i].2.2.1 z.2.2.1 with q | q
                · exact q
                · exact absurd ((nI_le' (by omega) (by omega)).mpr q) c3
              refine ⟨_, gi, hge, fun q hq hsq => ?_⟩
              rcases memt q hq with hq | rfl
              · have := z3 q hq hsq; omega
              · exact Nat.le_refl _
  refine e_X3_nextText ?_
  have := key R.length 0 none (by omega) (Nat.zero_le _) (fun r hr => by simp at hr)
  exact this
end D34
