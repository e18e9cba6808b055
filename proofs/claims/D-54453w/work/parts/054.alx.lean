/-! SPECS 4: ArrayList: insertion, removal of an object, the search, clearing -/
set_option maxRecDepth 100000
section AX
variable {G : g_} {h : hp_} {l : Nat} {X : List Nat} {mc : Int32} {ar n : Nat} {f : Nat → Option Nat}
theorem J2_rcfa_ {i : Nat} (A : AL G h l X mc ar n f) (hi : i ≤ X.length) : Do_ G M_J2_rangeCheckForAdd [.ref l, .int (nI i)] h (RV fun h' => h' = h) := by
  have hl := A.len
  refine e_J2_rangeCheckForAdd ⟨_, gfx A.1 rfl rfl, fun c => ?_, fun _ => ⟨fun _ => ⟨rfl, rfl⟩, fun c => c (nI_pos' (by omega))⟩⟩
  have := (nI_lt' (by omega) (by omega)).mp c
  omega
/-- the array behind an insertion -/
theorem ins_at {a i : Nat} {g : Nat → Option Nat} (hi : i ≤ X.length) (hg : ∀ (j x : Nat), X[j]? = some x → g j = some x) : ∀ (j x : Nat), (X.insertIdx i a)[j]? = some x → va_up (va_cpy g g i (i + 1) (X.length - i)) i (some a) j = some x := by
  intro j x hx
  rw [List.getElem?_insertIdx] at hx
  by_cases h1 : j < i
  · rw [if_pos h1] at hx
    rw [va_up_ne _ _ (by omega)]
    unfold va_cpy
    rw [if_neg (by omega)]
    exact hg j x hx
  · rw [if_neg h1] at hx
    by_cases h2 : j = i
    · rw [if_pos h2, if_pos (by omega)] at hx
      rw [h2, va_up_self]
      exact hx
    · rw [if_neg h2] at hx
      have := (List.getElem?_eq_some_iff.mp hx).1
      rw [va_up_ne _ _ h2]
      unfold va_cpy
      rw [if_pos (by omega), show i + (j - (i + 1)) = j - 1 by omega]
      exact hg _ x hx
theorem J2_add_3_ {a i : Nat} (hw : hwf h) (A : AL G h l X mc ar n f) (hi : i ≤ X.length) (hn : X.length ≤ 100) (ho : ∀ x ∈ X, obk h x) (oa : obk h a) :
    Do_ G M_J2_add_3 [.ref l, .int (nI i), .ref a] h (RV fun h' => ∃ ar' n' f', AL G h' l (X.insertIdx i a) (mc + 1) ar' n' f' ∧ WA l ar n h h' ar' n') := by
  have hne := A.ne
  have hl1 : l < hsz h := hlt hw A.1
  have hrc := J2_rcfa_ A hi
  have A0 := A
  obtain ⟨a1, a2, a3, a4, a5, a6, a7⟩ := A
  have hlen : (X.insertIdx i a).length = X.length + 1 := by rw [List.length_insertIdx, if_pos hi]
  refine e_J2_add_3 ⟨cax a1, hrc.rv ?_⟩
  intro h9 _ _ e9
  rw [e9]
  clear e9
  refine ⟨_, gfx a1 rfl rfl, _, pfx a1 rfl rfl rfl, _, gfx (hset_at _ _ _) rfl rfl, _, gfx (hset_at _ _ _) rfl rfl, n, alx (by rw [hset_ne _ _ hne.symm]; exact a2), fun c => ?_, fun c => ?_⟩
  · have hne2 : X.length ≠ n := fun e => c (by rw [e])
    refine ⟨n, f, n, f, i, i + 1, X.length - i, ?_, ?_, by omega, by omega, rfl, nI_add' i 1, nI_sub' hi, by omega, by omega, by omega, by omega, by omega, fun j y hj hy => ?_, fun b hb => ?_, n, va_cpy f f i (i + 1) (X.length - i), i, hset_at _ _ _, ix_nI (by omega) (by omega), _, pfx (c := 11) (fs := [.int (mc + 1), .ref ar, .int (nI X.length)]) ?_ rfl rfl rfl, rfl, ar, n, _, ⟨?_, ?_, by omega, a4, ins_at hi a5, a6, a7⟩, ?_, Or.inl ⟨rfl, rfl, by omega⟩, ?_⟩
    · rw [hset_ne _ _ hne.symm]; exact a2
    · rw [hset_ne _ _ hne.symm]; exact a2
    · have hy2 : X[i + j]? = some X[i + j] := List.getElem?_eq_getElem (by omega)
      rw [a5 _ _ hy2] at hy
      cases hy
      exact obk_set (ho _ (List.getElem_mem _)) (Or.inr ⟨11, _, rfl, by decide⟩)
    · cases hb
      exact obk_set (obk_set oa (Or.inr ⟨11, _, rfl, by decide⟩)) (Or.inl (obk_ar oa a2))
    · rw [hset_ne _ _ hne, hset_ne _ _ hne, hset_at]
      rfl
    · rw [hset_at, hlen]
      show some (eO 11 [.int (mc + 1), .ref ar, .int (nI X.length + 1)]) = _
      rw [show nI X.length + 1 = nI (X.length + 1) from nI_add' _ 1]
    · rw [hset_ne _ _ hne.symm, hset_at]
    · intro q e h1 h2 hq
      rw [hset_ne _ _ h1, hset_ne _ _ (by omega), hset_ne _ _ (by omega), hset_ne _ _ h1]
      exact hq
    · rw [hm_set, hm_set, hm_set, hm_set]; exact Nat.le_refl _
  · have hXn : X.length = n := (nI_eq' (by omega) (by omega)).mp (Classical.not_not.mp c)
    obtain ⟨g1, g2, g3, g4⟩ := gcap_bd a7 (by omega)
    have A1 : AL G (hset h l (eO 11 [.int (mc + 1), .ref ar, .int (nI X.length)])) l X (mc + 1) ar n f := ⟨hset_at _ _ _, by rw [hset_ne _ _ hne.symm]; exact a2, a3, a4, a5, a6, a7⟩
    refine ⟨cax (hset_at _ _ _), (J2_grow_ (hwf_set hw _ hl1) A1 hXn (by omega) (fun x hx => obk_set (ho x hx) (Or.inr ⟨11, _, rfl, by decide⟩))).rn ?_⟩
    rintro _ _ hw1 - ⟨rfl, f', hf', rfl⟩
    rw [hsz_set]
    have hln : l ≠ hsz h := by omega
    have hf5 : ∀ (j x : Nat), X[j]? = some x → f' j = some x := fun j x hx => by
      have := (List.getElem?_eq_some_iff.mp hx).1
      rw [hf' j (by omega)]
      exact a5 j x hx
    have hle : ∀ b, obk h b → obk (hset (hnew (hset h l (eO 11 [.int (mc + 1), .ref ar, .int (nI X.length)])) (eR (gcap n) f') (gcap n)) l (eO 11 [.int (mc + 1), .ref (hsz h), .int (nI X.length)])) b := fun b ob =>
      obk_set (obk_le (obk_set ob (Or.inr ⟨11, _, rfl, by decide⟩)) (Le.new (hwf_set hw _ hl1) _ _)) (Or.inr ⟨11, _, rfl, by decide⟩)
    have hat : hget (hset (hnew (hset h l (eO 11 [.int (mc + 1), .ref ar, .int (nI X.length)])) (eR (gcap n) f') (gcap n)) l (eO 11 [.int (mc + 1), .ref (hsz h), .int (nI X.length)])) (hsz h) = some (eR (gcap n) f') := by
      rw [hset_ne _ _ hln.symm]
      exact hnew_at (hset h l (eO 11 [.int (mc + 1), .ref ar, .int (nI X.length)])) _ _
    refine ⟨gcap n, f', gcap n, f', i, i + 1, X.length - i, hat, hat, by omega, by omega, rfl, nI_add' i 1, nI_sub' hi, by omega, by omega, by omega, by omega, by omega, fun j y hj hy => ?_, fun b hb => ?_, gcap n, va_cpy f' f' i (i + 1) (X.length - i), i, hset_at _ _ _, ix_nI (by omega) (by omega), _, pfx (c := 11) (fs := [.int (mc + 1), .ref (hsz h), .int (nI X.length)]) ?_ rfl rfl rfl, rfl, hsz h, gcap n, _, ⟨?_, ?_, by omega, g3, ins_at hi hf5, fun e => absurd e (by omega), Or.inr g1⟩, ?_, Or.inr (Nat.le_refl _), ?_⟩
    · have hy2 : X[i + j]? = some X[i + j] := List.getElem?_eq_getElem (by omega)
      rw [hf5 _ _ hy2] at hy
      cases hy
      exact hle _ (ho _ (List.getElem_mem _))
    · cases hb
      have o2 := hle _ oa
      exact obk_set o2 (Or.inl (obk_ar o2 hat))
    · rw [hset_ne _ _ hln, hset_ne _ _ hln, hset_at]
    · rw [hset_at, hlen]
      show some (eO 11 [.int (mc + 1), .ref (hsz h), .int (nI X.length + 1)]) = _
      rw [show nI X.length + 1 = nI (X.length + 1) from nI_add' _ 1]
    · rw [hset_ne _ _ hln.symm, hset_at]
    · intro q e h1 h2 hq
      have := hlt hw hq
      rw [hset_ne _ _ h1, hset_ne _ _ (by omega), hset_ne _ _ (by omega), hset_ne _ _ h1]
      exact hnew_old (hwf_set hw _ hl1) (by rw [hset_ne _ _ h1]; exact hq)
    · rw [hm_set, hm_set, hm_set, hm_set, hm_new, hm_set]; omega
/-- equals of an object that has none of its own -/
theorem J17_equals_ {a b : Nat} : QE G M_J17_equals [.ref a, .ref b] h (bI (decide (a = b))) :=
  e_J17_equals ⟨fun c => ⟨nI_b1, _, rfl, by rw [decide_eq_true (by cases c; rfl)]; rfl, rfl⟩, fun c => ⟨nI_b0, _, rfl, by rw [decide_eq_false (fun e => c (by rw [e]))]; rfl, rfl⟩⟩
/-- the class of a thing that is asked whether it equals another -/
def eqk (h : hp_) (a : Nat) : Prop := ∃ c, cls_at h a = some c ∧ (c = 5 ∨ c = 6)
theorem eqk_pck {a : Nat} {v : Value} {P : mt_ → Prop} (o : eqk h a) (k : P M_J17_equals) : pck [(0, M_J17_equals), (1, M_J17_equals), (2, M_J17_equals), (3, M_J17_equals), (4, M_J17_equals), (5, M_J17_equals), (6, M_J17_equals), (7, M_J17_equals), (8, M_J17_equals), (9, M_J17_equals), (10, M_J17_equals), (13, M_J17_equals)] [.ref a, v] h P := by
  obtain ⟨c, hc, rfl | rfl⟩ := o
  · exact Or.inr (Or.inr (Or.inr (Or.inr (Or.inr (Or.inl ⟨hc, k⟩)))))
  · exact Or.inr (Or.inr (Or.inr (Or.inr (Or.inr (Or.inr (Or.inl ⟨hc, k⟩))))))
theorem J2_ior_ {a i : Nat} (A : AL G h l X mc ar n f) (o : eqk h a) (hi : X[i]? = some a) (hf : ∀ j, j < i → X[j]? ≠ some a) : QE G M_J2_indexOfRange [.ref l, .ref a, .int (nI 0), .int (nI X.length)] h (nI i) := by
  have hl := A.len
  obtain ⟨a1, a2, a3, a4, a5, a6, a7⟩ := A
  have hix : i < X.length := (List.getElem?_eq_some_iff.mp hi).1
  have key : ∀ (d j : Nat), i - j = d → j ≤ i → Go_ G M_J2_indexOfRange 42 [none, some (.ref a), none, some (.int (nI X.length)), some (.ref ar), some (.int (nI j))] [] h (RI fun y h' => y = nI i ∧ h' = h) := by
    intro d
    induction d with
    | zero =>
      intro j hd hj
      have : j = i := by omega
      subst this
      refine w_J2_indexOfRange_42 ⟨fun c => absurd ((nI_le' (by omega) (by omega)).mp c) (by omega), fun _ => ⟨n, f, j, a2, ix_nI (by omega) (by omega), Or.inr ⟨a, a5 _ _ hi, eqk_pck o (J17_equals_.use ⟨fun c => ?_, fun _ => ⟨_, rfl, rfl, rfl⟩⟩)⟩⟩⟩
      rw [decide_eq_true rfl] at c
      exact absurd c (by decide)
    | succ d ih =>
      intro j hd hj
      have hy2 : X[j]? = some X[j] := List.getElem?_eq_getElem (by omega)
      have hya : a ≠ X[j] := fun e => hf j (by omega) (by rw [hy2, e])
      refine w_J2_indexOfRange_42 ⟨fun c => absurd ((nI_le' (by omega) (by omega)).mp c) (by omega), fun _ => ⟨n, f, j, a2, ix_nI (by omega) (by omega), Or.inr ⟨_, a5 _ _ hy2, eqk_pck o (J17_equals_.use ⟨fun _ => ?_, fun c => ?_⟩)⟩⟩⟩
      · rw [show nI j + 1 = nI (j + 1) from nI_add' j 1]
        exact ih (j + 1) (by omega) (by omega)
      · rw [decide_eq_false hya] at c
        exact absurd rfl c
  exact e_J2_indexOfRange ⟨_, gfx a1 rfl rfl, key i 0 rfl (Nat.zero_le _)⟩
theorem J2_indexOf_ {a i : Nat} (A : AL G h l X mc ar n f) (o : eqk h a) (hi : X[i]? = some a) (hf : ∀ j, j < i → X[j]? ≠ some a) : QE G M_J2_indexOf [.ref l, .ref a] h (nI i) :=
  e_J2_indexOf ⟨_, gfx A.1 rfl rfl, cax A.1, (J2_ior_ A o hi hf).use ⟨_, rfl, rfl, rfl⟩⟩
theorem J2_remove_2_ {a i : Nat} (A : AL G h l X mc ar n f) (ho : ∀ x ∈ X, obk h x) (o : eqk h a) (hi : X[i]? = some a) (hf : ∀ j, j < i → X[j]? ≠ some a) :
    Do_ G M_J2_remove_2 [.ref l, .ref a] h (RI fun y h' => y = 1 ∧ (∃ f', AL G h' l (X.eraseIdx i) (mc + 1) ar n f') ∧ M2 l ar h h') := by
  have hl := A.len
  have A0 := A
  obtain ⟨a1, a2, a3, a4, a5, a6, a7⟩ := A
  have hix : i < X.length := (List.getElem?_eq_some_iff.mp hi).1
  have key : ∀ (d j : Nat), i - j = d → j ≤ i → Go_ G M_J2_remove_2 39 [some (.ref l), some (.ref a), some (.ref ar), some (.int (nI X.length)), some (.int (nI j))] [] h (RI fun y h' => y = 1 ∧ (∃ f', AL G h' l (X.eraseIdx i) (mc + 1) ar n f') ∧ M2 l ar h h') := by
    intro d
    induction d with
    | zero =>
      intro j hd hj
      have : j = i := by omega
      subst this
      refine w_J2_remove_2_39 ⟨fun c => absurd ((nI_le' (by omega) (by omega)).mp c) (by omega), fun _ => ⟨n, f, j, a2, ix_nI (by omega) (by omega), Or.inr ⟨a, a5 _ _ hi, eqk_pck o (J17_equals_.use ⟨fun c => ?_, fun _ => ⟨cax a1, (J2_fastRemove_ A0 hix ho).rv fun h' _ _ k => ⟨nI_b1, _, rfl, rfl, k⟩⟩⟩)⟩⟩⟩
      rw [decide_eq_true rfl] at c
      exact absurd c (by decide)
    | succ d ih =>
      intro j hd hj
      have hy2 : X[j]? = some X[j] := List.getElem?_eq_getElem (by omega)
      have hya : a ≠ X[j] := fun e => hf j (by omega) (by rw [hy2, e])
      refine w_J2_remove_2_39 ⟨fun c => absurd ((nI_le' (by omega) (by omega)).mp c) (by omega), fun _ => ⟨n, f, j, a2, ix_nI (by omega) (by omega), Or.inr ⟨_, a5 _ _ hy2, eqk_pck o (J17_equals_.use ⟨fun _ => ?_, fun c => ?_⟩)⟩⟩⟩
      · rw [show nI j + 1 = nI (j + 1) from nI_add' j 1]
        exact ih (j + 1) (by omega) (by omega)
      · rw [decide_eq_false hya] at c
        exact absurd rfl c
  exact e_J2_remove_2 ⟨_, gfx a1 rfl rfl, _, gfx a1 rfl rfl, key i 0 rfl (Nat.zero_le _)⟩
theorem J2_clear_ (hl : l < hsz h) (A : AL G h l X mc ar n f) : Do_ G M_J2_clear [.ref l] h (RV fun h' => (∃ f', AL G h' l [] (mc + 1) ar n f') ∧ M2 l ar h h') := by
  have hl := A.len
  have hne := A.ne
  obtain ⟨a1, a2, a3, a4, a5, a6, a7⟩ := A
  have key : ∀ (d j : Nat) (h1 : hp_) (g : Nat → Option Nat), X.length - j = d → j ≤ X.length → hget h1 l = some (eO 11 [.int (mc + 1), .ref ar, .int (nI 0)]) → hget h1 ar = some (eR n g) → M2 l ar h h1 → Go_ G M_J2_clear 27 [none, some (.ref ar), some (.int (nI X.length)), some (.int (nI j))] [] h1 (RV fun h' => (∃ f', AL G h' l [] (mc + 1) ar n f') ∧ M2 l ar h h') := by
    intro d
    induction d with
    | zero =>
      intro j h1 g hd hj b1 b2 b3
      refine w_J2_clear_27 ⟨fun _ => ⟨rfl, ⟨g, b1, b2, Nat.zero_le _, a4, fun i x hx => by simp at hx, a6, a7⟩, b3⟩, fun c => absurd ((nI_le' (by omega) (by omega)).mpr (by omega)) c⟩
    | succ d ih =>
      intro j h1 g hd hj b1 b2 b3
      refine w_J2_clear_27 ⟨fun c => absurd ((nI_le' (by omega) (by omega)).mp c) (by omega), fun _ => ⟨(fun b hb => nomatch hb), n, g, j, b2, ix_nI (by omega) (by omega), ?_⟩⟩
      rw [show nI j + 1 = nI (j + 1) from nI_add' j 1]
      refine ih (j + 1) _ _ (by omega) (by omega) (by rw [hset_ne _ _ hne]; exact b1) (hset_at _ _ _) ⟨fun q h1 h2 => ?_, ?_⟩
      · rw [hset_ne _ _ h2]; exact b3.1 q h1 h2
      · rw [hm_set]; exact b3.2
  refine e_J2_clear ⟨_, gfx a1 rfl rfl, _, pfx a1 rfl rfl rfl, _, gfx (hset_at _ _ _) rfl rfl, _, gfx (hset_at _ _ _) rfl rfl, _, pfx (hset_at _ _ _) rfl rfl rfl, key X.length 0 _ f rfl (Nat.zero_le _) ?_ ?_ ⟨fun q h1 h2 => ?_, ?_⟩⟩
  · rw [hset_at]; rfl
  · rw [hset_ne _ _ hne.symm, hset_ne _ _ hne.symm]; exact a2
  · rw [hset_ne _ _ h1, hset_ne _ _ h1]
  · rw [hm_set, hm_set]
end AX
