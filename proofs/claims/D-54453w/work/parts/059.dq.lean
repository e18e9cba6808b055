/-! SPECS 9: ArrayDeque, of at most five -/
set_option maxRecDepth 100000
def DQ (h : hp_) (q es a : Nat) (X : List Nat) : Prop := ∃ g, hget h q = some (eO 12 [.ref es, .int (nI a), .int (nI ((a + X.length) % 17))]) ∧ hget h es = some (eR 17 g) ∧ a < 17 ∧ X.length ≤ 5 ∧ ∀ i x, X[i]? = some x → g ((a + i) % 17) = some x
section D9
variable {G : g_} {h : hp_} {q es a : Nat} {X : List Nat}
theorem DQ.kept {h' : hp_} (D : DQ h q es a X) (h1 : hget h' q = hget h q) (h2 : hget h' es = hget h es) : DQ h' q es a X := by
  unfold DQ
  rw [h1, h2]
  exact D
theorem J3_inc_ {t : Nat} (ht : t < 17) : QE G M_J3_inc [.int (nI t), .int (nI 17)] h (nI ((t + 1) % 17)) := by
  refine e_J3_inc ⟨fun c => ⟨_, rfl, ?_, rfl⟩, fun c => ⟨_, rfl, ?_, rfl⟩⟩
  · rw [show nI t + 1 = nI (t + 1) from nI_add' t 1] at c ⊢
    have := (nI_lt' (by omega) (by omega)).mp c
    rw [show (t + 1) % 17 = t + 1 from by omega]
  · rw [show nI t + 1 = nI (t + 1) from nI_add' t 1] at c
    have : ¬ t + 1 < 17 := fun e => c ((nI_lt' (by omega) (by omega)).mpr e)
    rw [show (t + 1) % 17 = 0 from by omega]
    rfl
theorem nI_m1 {t : Nat} (ht : 0 < t) : nI t + -1 = nI (t - 1) := by
  rw [← nI_sub' (a := t) (b := 1) (by omega), Int32.sub_eq_add_neg]; rfl
theorem J3_dec_ {t : Nat} (ht : t < 17) : QE G M_J3_dec [.int (nI t), .int (nI 17)] h (nI ((t + 16) % 17)) := by
  rcases Nat.eq_zero_or_pos t with rfl | h0
  · exact e_J3_dec ⟨fun c => absurd c (by decide), fun c => ⟨_, rfl, by decide, rfl⟩⟩
  · refine e_J3_dec ⟨fun c => ⟨_, rfl, ?_, rfl⟩, fun c => ?_⟩
    · rw [nI_m1 h0, show (t + 16) % 17 = t - 1 from by omega]
    · rw [nI_m1 h0] at c
      exact absurd (nI_pos' (by omega)) c
theorem J3_eA_ {g : Nat → Option Nat} {j x : Nat} (he : hget h es = some (eR 17 g)) (hj : j < 17) (hx : g j = some x) : Do_ G M_J3_elementAt [.ref es, .int (nI j)] h (RO (fun _ => False) (fun y h' => y = x ∧ h' = h)) :=
  e_J3_elementAt ⟨_, _, j, he, ix_nI hj (by omega), Or.inr ⟨x, hx, Or.inr ⟨_, rfl, rfl, rfl⟩⟩⟩
theorem J3_isEmpty_ (D : DQ h q es a X) : QE G M_J3_isEmpty [.ref q] h (bI (decide (X.length = 0))) := by
  obtain ⟨g, d1, d2, d3, d4, d5⟩ := D
  refine e_J3_isEmpty ⟨_, gfx d1 rfl rfl, _, gfx d1 rfl rfl, fun c => ⟨nI_b0, _, rfl, ?_, rfl⟩, fun c => ⟨nI_b1, _, rfl, ?_, rfl⟩⟩
  · have : X.length ≠ 0 := fun e => c (by rw [e]; congr 1; omega)
    rw [decide_eq_false this]; rfl
  · have := (nI_eq' (by omega) (by omega)).mp (Classical.not_not.mp c)
    rw [decide_eq_true (by omega)]; rfl
theorem neg17 : ∀ k, k < 18 → 0 < k → ¬ 0 ≤ -nI k := by decide +kernel
theorem J3_size_ (D : DQ h q es a X) : QE G M_J3_size [.ref q] h (nI X.length) := by
  obtain ⟨g, d1, d2, d3, d4, d5⟩ := D
  refine e_J3_size ⟨_, gfx d1 rfl rfl, _, gfx d1 rfl rfl, _, gfx d1 rfl rfl, _, alx d2, ?_⟩
  refine QE.use (x := nI X.length) ?_ ⟨_, rfl, rfl, rfl⟩
  by_cases hw : a + X.length < 17
  · have e1 : (a + X.length) % 17 = a + X.length := by omega
    rw [e1]
    have e2 : nI (a + X.length) - nI a = nI X.length := by rw [nI_sub' (by omega)]; congr 1; omega
    refine e_J3_sub ?_
    rw [e2]
    exact ⟨fun _ => ⟨_, rfl, rfl, rfl⟩, fun c => absurd (nI_pos' (by omega)) c⟩
  · have e1 : (a + X.length) % 17 = a + X.length - 17 := by omega
    rw [e1]
    have e3 : nI (a + X.length - 17) - nI a + nI 17 = nI X.length := by
      rw [Int32.sub_eq_add_neg, Int32.add_assoc, Int32.add_comm (-nI a), ← Int32.sub_eq_add_neg, nI_sub' (a := 17) (by omega), nI_add']
      congr 1; omega
    refine e_J3_sub ⟨fun c => ?_, fun c => ⟨_, rfl, e3, rfl⟩⟩
    exfalso
    have e4 : nI (a + X.length - 17) - nI a = - nI (17 - X.length) := by
      have : nI (a + X.length - 17) - nI a = nI X.length - nI 17 := by rw [← e3]; simp
      rw [this, ← Int32.neg_sub, nI_sub' (by omega)]
    rw [e4] at c
    exact neg17 (17 - X.length) (by omega) (by omega) c
theorem J3_addLast_ {x : Nat} (D : DQ h q es a X) (hl : X.length ≤ 4) (ox : obk h x) : Do_ G M_J3_addLast [.ref q, .ref x] h (RV fun h' => DQ h' q es a (X ++ [x]) ∧ M2 q es h h') := by
  obtain ⟨g, d1, d2, d3, d4, d5⟩ := D
  have hne : q ≠ es := hgn d1 d2 (by simp)
  have d1' : ∀ e, hget (hset h es e) q = some (eO 12 [.ref es, .int (nI a), .int (nI ((a + X.length) % 17))]) := fun e => by rw [hset_ne _ _ hne]; exact d1
  refine e_J3_addLast ⟨_, gfx d1 rfl rfl, _, gfx d1 rfl rfl, (fun b hb => by cases hb; exact ox), 17, g, (a + X.length) % 17, d2, ix_nI (by omega) (by omega), _, gfx (d1' _) rfl rfl, _, gfx (d1' _) rfl rfl, _, alx (hset_at _ _ _), (J3_inc_ (by omega)).use ⟨_, pfx (d1' _) rfl rfl rfl, fun _ => ⟨rfl, ⟨va_up g ((a + X.length) % 17) (some x), ?_, ?_, d3, ?_, ?_⟩, ?_, ?_⟩, fun c => ?_⟩⟩
  · rw [hset_at, List.length_append, List.length_singleton, show (a + (X.length + 1)) % 17 = ((a + X.length) % 17 + 1) % 17 from by omega]
    rfl
  · rw [hset_ne _ _ (Ne.symm hne)]
    exact hset_at _ _ _
  · rw [List.length_append, List.length_singleton]; omega
  · intro i y hy
    rw [List.getElem?_append] at hy
    by_cases hi : i < X.length
    · rw [if_pos hi] at hy
      rw [va_up_ne _ _ (by omega)]
      exact d5 i y hy
    · rw [if_neg hi] at hy
      have hi2 : i = X.length := by
        rcases Nat.eq_zero_or_pos (i - X.length) with e | e
        · omega
        · rw [List.getElem?_eq_none (by simp; omega)] at hy; cases hy
      subst hi2
      rw [Nat.sub_self] at hy
      rw [va_up_self]
      exact hy
  · intro z h1 h2
    rw [hset_ne _ _ h1, hset_ne _ _ h2]
  · rw [hm_set, hm_set]
  · have := (nI_eq' (by omega) (by omega)).mp (Classical.not_not.mp c)
    omega
theorem J3_removeFirst_ {x : Nat} (D : DQ h q es a (x :: X)) : Do_ G M_J3_removeFirst [.ref q] h (RN fun y h' => y = x ∧ DQ h' q es ((a + 1) % 17) X ∧ M2 q es h h') := by
  obtain ⟨g, d1, d2, d3, d4, d5⟩ := D
  have hne : q ≠ es := hgn d1 d2 (by simp)
  have d1' : ∀ e, hget (hset h es e) q = some (eO 12 [.ref es, .int (nI a), .int (nI ((a + (x :: X).length) % 17))]) := fun e => by rw [hset_ne _ _ hne]; exact d1
  rw [List.length_cons] at d4
  have hg : g a = some x := by
    have := d5 0 x rfl
    rwa [show (a + 0) % 17 = a from by omega] at this
  refine e_J3_removeFirst ⟨cax d1, e_J3_pollFirst ⟨_, gfx d1 rfl rfl, _, gfx d1 rfl rfl, (J3_eA_ d2 d3 hg).ro (fun _ _ _ c => c.elim) ?_⟩⟩
  rintro _ h9 - - ⟨rfl, e9⟩
  rw [e9]; clear e9
  refine ⟨(fun b hb => by cases hb), 17, g, a, d2, ix_nI d3 (by omega), _, alx (hset_at _ _ _), (J3_inc_ d3).use ⟨_, pfx (d1' _) rfl rfl rfl, Or.inr ⟨_, rfl, _, rfl, rfl, ⟨va_up g a none, ?_, ?_, by omega, by omega, ?_⟩, ?_, ?_⟩⟩⟩
  · rw [hset_at, List.length_cons, show (a + (X.length + 1)) % 17 = ((a + 1) % 17 + X.length) % 17 from by omega]
    rfl
  · rw [hset_ne _ _ (Ne.symm hne)]
    exact hset_at _ _ _
  · intro i y hy
    have hi : i < X.length := (List.getElem?_eq_some_iff.mp hy).1
    rw [va_up_ne _ _ (by omega)]
    have := d5 (i + 1) y (by simpa using hy)
    rwa [show (a + (i + 1)) % 17 = ((a + 1) % 17 + i) % 17 from by omega] at this
  · intro z h1 h2
    rw [hset_ne _ _ h1, hset_ne _ _ h2]
  · rw [hm_set, hm_set]
theorem J3_removeLast_ {x : Nat} (D : DQ h q es a (X ++ [x])) : Do_ G M_J3_removeLast [.ref q] h (RN fun y h' => y = x ∧ DQ h' q es a X ∧ M2 q es h h') := by
  obtain ⟨g, d1, d2, d3, d4, d5⟩ := D
  have hne : q ≠ es := hgn d1 d2 (by simp)
  rw [List.length_append, List.length_singleton] at d1 d4
  have hg : g ((a + X.length) % 17) = some x := d5 X.length x (by simp)
  have e1 : ((a + (X.length + 1)) % 17 + 16) % 17 = (a + X.length) % 17 := by omega
  refine e_J3_removeLast ⟨cax d1, e_J3_pollLast ⟨_, gfx d1 rfl rfl, _, gfx d1 rfl rfl, _, alx d2, (J3_dec_ (by omega)).use ?_⟩⟩
  rw [e1]
  refine (J3_eA_ d2 (by omega) hg).ro (fun _ _ _ c => c.elim) ?_
  rintro _ h9 - - ⟨rfl, e9⟩
  rw [e9]; clear e9
  refine ⟨_, pfx d1 rfl rfl rfl, (fun b hb => by cases hb), 17, g, (a + X.length) % 17, ?_, ix_nI (by omega) (by omega), Or.inr ⟨_, rfl, _, rfl, rfl, ⟨va_up g ((a + X.length) % 17) none, ?_, ?_, d3, by omega, ?_⟩, ?_, ?_⟩⟩
  · rw [hset_ne _ _ (Ne.symm hne)]
    exact d2
  · rw [hset_ne _ _ hne]
    exact hset_at _ _ _
  · exact hset_at _ _ _
  · intro i y hy
    have hi : i < X.length := (List.getElem?_eq_some_iff.mp hy).1
    rw [va_up_ne _ _ (by omega)]
    exact d5 i y (by rw [List.getElem?_append_left hi]; exact hy)
  · intro z h1 h2
    rw [hset_ne _ _ h2, hset_ne _ _ h1]
  · rw [hm_set, hm_set]
theorem J3_init_ (hw : hwf h) (B : hget h q = some (eO 12 [.null, .int 0, .int 0])) : Do_ G M_J3_init [.ref q] h (RV fun h' => DQ h' q (hsz h) 0 [] ∧ K1 q h h' ∧ hm h' = hm h + 18) := by
  have hq := hlt hw B
  refine e_J3_init ⟨cax B, e_J0_init ⟨rfl, 17, rfl, by omega, _, pfx (hnew_old hw B) rfl rfl rfl, rfl, ⟨fun _ => none, hset_at _ _ _, ?_, by omega, by simp, fun i x hx => by simp at hx⟩, ?_, ?_⟩⟩
  · rw [hset_ne _ _ (by omega)]
    exact hnew_at _ _ _
  · intro z e h1 h2
    rw [hset_ne _ _ h1]
    exact hnew_old hw h2
  · rw [hm_set, hm_new]
end D9
