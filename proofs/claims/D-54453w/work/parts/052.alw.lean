/-! SPECS 2: ArrayList: what writes -/
set_option maxRecDepth 100000
theorem obk_kept {h h' : hp_} {b : Nat} (o : obk h b) (e : hget h' b = hget h b) : obk h' b := by
  unfold obk
  rw [e]
  exact o
theorem obk_le {h h' : hp_} {b : Nat} (o : obk h b) (e : Le h h') : obk h' b := by
  rcases o with ⟨c, fs, o, q⟩ | ⟨n, f, o⟩
  · exact Or.inl ⟨c, fs, e _ _ o, q⟩
  · exact Or.inr ⟨n, f, e _ _ o⟩
theorem obk_ar {h : hp_} {b ar n : Nat} {f : Nat → Option Nat} (o : obk h b) (e : hget h ar = some (eR n f)) : b ≠ ar := by
  rintro rfl
  rcases o with ⟨c, fs, o, q⟩ | ⟨n, f, o⟩
  · rw [o] at e; cases e
  · rw [o] at e; cases e
/-- a write that leaves an object an object -/
theorem obk_set {h : hp_} {a b : Nat} {e : e_} (o : obk h b) (k : b ≠ a ∨ (∃ c fs, e = eO c fs ∧ c < 15)) : obk (hset h a e) b := by
  by_cases hb : b = a
  · rcases k with k | ⟨c, fs, k, q⟩
    · exact absurd hb k
    · subst k hb
      exact Or.inl ⟨c, fs, hset_at _ _ _, q⟩
  · exact obk_kept o (hset_ne _ _ hb)
/-- two cells alone are written -/
def M2 (l ar : Nat) (h h' : hp_) : Prop := (∀ q, q ≠ l → q ≠ ar → hget h' q = hget h q) ∧ hm h' = hm h
theorem M2.fr {l ar n : Nat} {h h' : hp_} (m : M2 l ar h h') (h1 : n ≤ l) (h2 : n ≤ ar) : Fr n h h' := fun q e hq z => by
  rw [m.1 q (by omega) (by omega)]
  exact z
section AW
variable {G : g_} {h : hp_} {l : Nat} {X : List Nat} {mc : Int32} {ar n : Nat} {f : Nat → Option Nat}
theorem AL.ne (A : AL G h l X mc ar n f) : l ≠ ar := hgn A.1 A.2.1 (by simp)
theorem J2_init_ {v1 : Int32} {v2 : Value} {v3 : Int32} (hw : hwf h) (hz : hget h (gz G) = some (eR 0 f)) (A : hget h l = some (eO 11 [.int v1, v2, .int 0])) : Do_ G M_J2_init [.ref l] h (RV fun h' => AL G h' l [] 0 (gz G) 0 f ∧ h' = hset h l (eO 11 [.int 0, .ref (gz G), .int 0])) := by
  refine e_J2_init ⟨cax A, e_J1_init ⟨cax A, e_J0_init ⟨rfl, _, pfx A rfl rfl rfl, rfl, _, pfx (hset_at _ _ _) rfl rfl rfl, rfl, ?_, ?_⟩⟩⟩
  · refine ⟨hset_at _ _ _, ?_, Nat.zero_le _, by omega, fun i x hx => by simp at hx, fun _ => rfl, Or.inl rfl⟩
    have hne : gz G ≠ l := hgn hz A (by simp)
    rw [hset_ne _ _ hne, hset_ne _ _ hne]
    exact hz
  · rw [hset_hset]
    rfl
theorem nI1 : (1 : Int32) = nI 1 := rfl
theorem J2_fastRemove_ {i : Nat} (A : AL G h l X mc ar n f) (hi : i < X.length) (ho : ∀ x ∈ X, obk h x) :
    Do_ G M_J2_fastRemove [.ref l, .ref ar, .int (nI i)] h (RV fun h' => (∃ f', AL G h' l (X.eraseIdx i) (mc + 1) ar n f') ∧ M2 l ar h h') := by
  have hl := A.len
  have hne := A.ne
  obtain ⟨a1, a2, a3, a4, a5, a6, a7⟩ := A
  have e1 : nI X.length - 1 = nI (X.length - 1) := nI_sub' (b := 1) (by omega)
  have hlen : (X.eraseIdx i).length = X.length - 1 := by rw [List.length_eraseIdx]; simp [hi]
  have hn0 : n ≠ 0 := by omega
  refine e_J2_fastRemove ⟨_, gfx a1 rfl rfl, _, pfx a1 rfl rfl rfl, _, gfx (hset_at _ _ _) rfl rfl, ?_⟩
  rw [e1]
  refine ⟨fun c => ?_, fun c => ?_⟩
  · have hi2 : i = X.length - 1 := by have := (nI_le' (by omega) (by omega)).mp c; omega
    refine ⟨_, pfx (hset_at _ _ _) rfl rfl rfl, (fun b hb => nomatch hb), n, f, X.length - 1, ?_, ix_nI (by omega) (by omega), rfl, ⟨va_up f (X.length - 1) none, ?_⟩, ?_, ?_⟩
    · rw [hset_ne _ _ hne.symm, hset_ne _ _ hne.symm]; exact a2
    · refine ⟨?_, hset_at _ _ _, by omega, a4, fun j x hx => ?_, fun e => absurd e hn0, a7⟩
      · rw [hset_ne _ _ hne, hset_at, hlen]
        rfl
      · rw [List.getElem?_eraseIdx] at hx
        have hj : j < X.length - 1 := by
          split at hx
          · omega
          · have := (List.getElem?_eq_some_iff.mp hx).1; omega
        rw [if_pos (by omega)] at hx
        rw [va_up_ne _ _ (by omega)]
        exact a5 j x hx
    · intro q h1 h2
      rw [hset_ne _ _ h2, hset_ne _ _ h1, hset_ne _ _ h1]
    · rw [hm_set, hm_set, hm_set]
  · have hi2 : i < X.length - 1 := by
      rcases Nat.lt_or_ge i (X.length - 1) with q | q
      · exact q
      · exact absurd ((nI_le' (by omega) (by omega)).mpr q) c
    refine ⟨n, f, n, f, i + 1, i, X.length - 1 - i, ?_, ?_, by omega, by omega, nI_add' i 1, rfl, nI_sub' (by omega), by omega, by omega, by omega, by omega, by omega, fun j y hj hy => ?_, _, pfx (c := 11) (fs := [.int (mc + 1), .ref ar, .int (nI X.length)]) ?_ rfl rfl rfl, (fun b hb => nomatch hb), n, va_cpy f f (i + 1) i (X.length - 1 - i), X.length - 1, ?_, ix_nI (by omega) (by omega), rfl, ⟨va_up (va_cpy f f (i + 1) i (X.length - 1 - i)) (X.length - 1) none, ?_⟩, ?_, ?_⟩
    · rw [hset_ne _ _ hne.symm]; exact a2
    · rw [hset_ne _ _ hne.symm]; exact a2
    · have hy2 : X[i + 1 + j]? = some X[i + 1 + j] := List.getElem?_eq_getElem (by omega)
      have := a5 _ _ hy2
      rw [this] at hy
      cases hy
      exact obk_set (ho _ (List.getElem_mem _)) (Or.inr ⟨11, _, rfl, by decide⟩)
    · rw [hset_ne _ _ hne, hset_at]
      rfl
    · rw [hset_ne _ _ hne.symm, hset_at]
    · refine ⟨?_, hset_at _ _ _, by omega, a4, fun j x hx => ?_, fun e => absurd e hn0, a7⟩
      · rw [hset_ne _ _ hne, hset_at, hlen]
        rfl
      · rw [List.getElem?_eraseIdx] at hx
        have hj : j < X.length - 1 := by
          split at hx
          · omega
          · have := (List.getElem?_eq_some_iff.mp hx).1; omega
        rw [va_up_ne _ _ (by omega)]
        unfold va_cpy
        by_cases hji : j < i
        · rw [if_pos hji] at hx
          rw [if_neg (by omega)]
          exact a5 j x hx
        · rw [if_neg hji] at hx
          rw [if_pos (by omega), show i + 1 + (j - i) = j + 1 by omega]
          exact a5 _ x hx
    · intro q h1 h2
      rw [hset_ne _ _ h2, hset_ne _ _ h1, hset_ne _ _ h2, hset_ne _ _ h1]
    · rw [hm_set, hm_set, hm_set, hm_set]
theorem J2_remove_ {i x : Nat} (A : AL G h l X mc ar n f) (hx : X[i]? = some x) (ho : ∀ x ∈ X, obk h x) :
    Do_ G M_J2_remove [.ref l, .int (nI i)] h (RN fun y h' => y = x ∧ (∃ f', AL G h' l (X.eraseIdx i) (mc + 1) ar n f') ∧ M2 l ar h h') := by
  have hl := A.len
  have hi : i < X.length := (List.getElem?_eq_some_iff.mp hx).1
  have := A.2.2.1
  have := A.2.2.2.1
  refine e_J2_remove ⟨_, gfx A.1 rfl rfl, (J8_ci hi (by omega)).use ⟨_, gfx A.1 rfl rfl, n, f, i, A.2.1, ix_nI (by omega) (by omega), Or.inr ⟨x, A.2.2.2.2.1 i x hx, cax A.1, (J2_fastRemove_ A hi ho).rv ?_⟩⟩⟩
  intro h' _ _ k
  exact ⟨_, rfl, rfl, k⟩
end AW
