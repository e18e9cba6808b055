/-! SPECS 3: ArrayList: growing, adding -/
set_option maxRecDepth 100000
theorem sh1 : ∀ n, n < 151 → nI n >>> (1 &&& 31) = nI (n / 2) := by decide +kernel
section AA
variable {G : g_} {h : hp_}
theorem J11_max_ {a b : Nat} (ha : a < 2 ^ 31) (hb : b < 2 ^ 31) : QE G M_J11_max [.int (nI a), .int (nI b)] h (nI (max a b)) :=
  e_J11_max ⟨fun c => ⟨_, rfl, by rw [Nat.max_eq_right (Nat.le_of_lt ((nI_lt' ha hb).mp c))], rfl⟩, fun c => ⟨_, rfl, by
    rw [Nat.max_eq_left (by rcases Nat.lt_or_ge a b with q | q
                            · exact absurd ((nI_lt' ha hb).mpr q) c
                            · exact q)], rfl⟩⟩
theorem J11_min_ {a b : Nat} (ha : a < 2 ^ 31) (hb : b < 2 ^ 31) : QE G M_J11_min [.int (nI a), .int (nI b)] h (nI (min a b)) :=
  e_J11_min ⟨fun c => ⟨_, rfl, by rw [Nat.min_eq_right (Nat.le_of_lt ((nI_lt' hb ha).mp c))], rfl⟩, fun c => ⟨_, rfl, by
    rw [Nat.min_eq_left (by rcases Nat.lt_or_ge b a with q | q
                            · exact absurd ((nI_lt' hb ha).mpr q) c
                            · exact q)], rfl⟩⟩
theorem J10_newLength_ {n : Nat} (h1 : n ≤ 150) (h2 : 10 ≤ n) : QE G M_J10_newLength [.int (nI n), .int (nI 1), .int (nI (n / 2))] h (nI (n + n / 2)) := by
  refine e_J10_newLength ((J11_max_ (by omega) (by omega)).use ?_)
  rw [Nat.max_eq_right (by omega), nI_add']
  refine ⟨fun c => ?_, fun _ => ⟨fun c => ?_, fun _ => ⟨_, rfl, rfl, rfl⟩⟩⟩
  · have := (nI_le' (a := n + n / 2) (b := 0) (by omega) (by omega)).mp c
    omega
  · have := (nI_lt' (a := 2147483639) (b := n + n / 2) (by omega) (by omega)).mp c
    omega
theorem J12_copyOf_ {ar n k : Nat} {f : Nat → Option Nat} (hw : hwf h) (ha : hget h ar = some (eR n f)) (hn : 0 < n) (hk : n ≤ k) (hk2 : k ≤ 1000) (ho : ∀ i y, i < n → f i = some y → obk h y) :
    Do_ G M_J12_copyOf [.ref ar, .int (nI k)] h (RN fun y h' => y = hsz h ∧ h' = hnew h (eR k (va_cpy f (fun _ => none) 0 0 n)) k) := by
  refine e_J12_copyOf ⟨n, f, ha, by omega, e_J12_copyOf_2 ⟨fun _ => ⟨k, rfl, by omega, n, alx (hnew_old hw ha), (J11_min_ (by omega) (by omega)).use ⟨n, f, k, fun _ => none, 0, 0, n, hnew_old hw ha, hnew_at _ _ _, hn, by omega, rfl, rfl, by rw [Nat.min_eq_left hk], by omega, by omega, by omega, by omega, by omega, fun i y hi hy => ?_, _, rfl, _, rfl, rfl, hset_new⟩⟩, fun c => c rfl⟩⟩
  rw [Nat.zero_add] at hy
  exact obk_le (ho i y hi hy) (Le.new hw _ _)
variable {l : Nat} {X : List Nat} {mc : Int32} {ar n : Nat} {f : Nat → Option Nat}
def gcap (n : Nat) : Nat := if n = 0 then 10 else n + n / 2
theorem J2_grow_ (hw : hwf h) (A : AL G h l X mc ar n f) (hf : X.length = n) (hn : n ≤ 100) (ho : ∀ x ∈ X, obk h x) :
    Do_ G M_J2_grow [.ref l] h (RN fun y h' => y = hsz h ∧ ∃ f', (∀ i, i < n → f' i = f i) ∧ h' = hset (hnew h (eR (gcap n) f') (gcap n)) l (eO 11 [.int mc, .ref (hsz h), .int (nI X.length)])) := by
  obtain ⟨a1, a2, a3, a4, a5, a6, a7⟩ := A
  refine e_J2_grow ⟨_, gfx a1 rfl rfl, cax a1, Do_.rn (P := fun y h' => y = hsz h ∧ ∃ f', (∀ i, i < n → f' i = f i) ∧ h' = hset (hnew h (eR (gcap n) f') (gcap n)) l (eO 11 [.int mc, .ref (hsz h), .int (nI X.length)])) ?_ (fun y h' _ _ k => ⟨_, rfl, k⟩)⟩
  refine e_J2_grow_2 ⟨_, gfx a1 rfl rfl, n, alx a2, fun c => ?_, fun c => ⟨_, gfx a1 rfl rfl, fun _ => ?_, fun d => ?_⟩⟩
  · have h0 : 0 < n := (nI_lt' (a := 0) (b := n) (by omega) (by omega)).mp c
    have h10 : 10 ≤ n := by omega
    rw [hf, show nI n + 1 = nI (n + 1) from nI_add' n 1, nI_sub' (a := n + 1) (b := n) (by omega), Nat.add_sub_cancel_left, sh1 n (by omega)]
    refine (J10_newLength_ (by omega) h10).use ⟨_, gfx a1 rfl rfl, (J12_copyOf_ hw a2 h0 (by omega) (by omega) (fun i y hi hy => ?_)).rn ?_⟩
    · have hy2 : X[i]? = some X[i] := List.getElem?_eq_getElem (by omega)
      rw [a5 _ _ hy2] at hy
      cases hy
      exact ho _ (List.getElem_mem _)
    · rintro _ _ - - ⟨rfl, rfl⟩
      refine ⟨_, pfx (hnew_old hw a1) rfl rfl rfl, _, rfl, rfl, va_cpy f (fun _ => none) 0 0 n, fun i hi => ?_, ?_⟩
      · unfold va_cpy
        rw [if_pos (by omega)]
        congr 1
        omega
      · rw [show gcap n = n + n / 2 from if_neg (by omega), hf]
        rfl
  · have h0 : n = 0 := by
      rcases Nat.eq_zero_or_pos n with q | q
      · exact q
      · exact absurd ((nI_lt' (a := 0) (b := n) (by omega) (by omega)).mpr q) c
    subst h0
    rw [hf]
    refine (J11_max_ (a := 10) (b := 1) (by omega) (by omega)).use ⟨10, rfl, by omega, _, pfx (hnew_old hw a1) rfl rfl rfl, _, rfl, rfl, fun _ => none, fun i hi => absurd hi (by omega), ?_⟩
    rw [hf]
    rfl
  · have h0 : n = 0 := by
      rcases Nat.eq_zero_or_pos n with q | q
      · exact q
      · exact absurd ((nI_lt' (a := 0) (b := n) (by omega) (by omega)).mpr q) c
    exact absurd (by rw [a6 h0]) d
/-- a list grew by a write: what is kept -/
def WA (l ar n : Nat) (h h' : hp_) (ar' n' : Nat) : Prop := (∀ q e, q ≠ l → (q ≠ ar ∨ n = 0) → hget h q = some e → hget h' q = some e) ∧ ((ar' = ar ∧ n' = n ∧ n ≠ 0) ∨ hsz h ≤ ar') ∧ hm h' + 4 * n ≤ hm h + 4 * n'
theorem WA.fr {l ar n k ar' n' : Nat} {h h' : hp_} (m : WA l ar n h h' ar' n') (h1 : k ≤ l) (h2 : k ≤ ar ∨ n = 0) : Fr k h h' := fun q e hq z => m.1 q e (by omega) (by omega) z
theorem gcap_bd {n : Nat} (h : n = 0 ∨ 10 ≤ n) (h2 : n ≤ 100) : 10 ≤ gcap n ∧ n < gcap n ∧ gcap n ≤ 150 ∧ gcap n + 1 + 4 * n ≤ 4 * gcap n := by
  unfold gcap
  rcases h with rfl | h
  · simp
  · rw [if_neg (by omega)]; omega
theorem J2_add_2_ {a : Nat} (hw : hwf h) (A : AL G h l X mc ar n f) (hn : X.length ≤ 100) (ho : ∀ x ∈ X, obk h x) (oa : obk h a) :
    Do_ G M_J2_add_2 [.ref l, .ref a, .ref ar, .int (nI X.length)] h (RV fun h' => ∃ ar' n' f', AL G h' l (X ++ [a]) mc ar' n' f' ∧ WA l ar n h h' ar' n') := by
  have hne := A.ne
  have A0 := A
  obtain ⟨a1, a2, a3, a4, a5, a6, a7⟩ := A
  have hXa : ∀ (g : Nat → Option Nat), (∀ i, i < X.length → g i = f i) → ∀ (i x : Nat), (X ++ [a])[i]? = some x → va_up g X.length (some a) i = some x := by
    intro g hg i x hx
    rw [List.getElem?_append] at hx
    by_cases hi : i < X.length
    · rw [if_pos hi] at hx
      rw [va_up_ne _ _ (by omega), hg i hi]
      exact a5 i x hx
    · rw [if_neg hi] at hx
      have hz : i - X.length < 1 := (List.getElem?_eq_some_iff.mp hx).1
      have : i = X.length := by omega
      subst this
      rw [Nat.sub_self] at hx
      rw [va_up_self]
      exact hx
  refine e_J2_add_2 ⟨n, alx a2, fun c => ⟨fun b hb => ?_, n, f, X.length, a2, ?_, ?_⟩, fun c => ⟨cax a1, ?_⟩⟩
  · cases hb; exact oa
  · have : X.length ≠ n := fun e => c (by rw [e])
    exact ix_nI (by omega) (by omega)
  · have hne2 : X.length ≠ n := fun e => c (by rw [e])
    refine ⟨_, pfx (c := 11) (fs := [.int mc, .ref ar, .int (nI X.length)]) (by rw [hset_ne _ _ hne]; exact a1) rfl rfl rfl, rfl, ar, n, _, ⟨?_, ?_, ?_, a4, hXa f (fun _ _ => rfl), a6, a7⟩, ?_, Or.inl ⟨rfl, rfl, by omega⟩, ?_⟩
    · rw [hset_at, List.length_append]
      show some (eO 11 [.int mc, .ref ar, .int (nI X.length + 1)]) = _
      rw [show nI X.length + 1 = nI (X.length + 1) from nI_add' _ 1]
      rfl
    · rw [hset_ne _ _ hne.symm, hset_at]
    · rw [List.length_append]; show X.length + 1 ≤ n; omega
    · intro q e h1 h2 hq
      rw [hset_ne _ _ h1, hset_ne _ _ (by omega)]
      exact hq
    · rw [hm_set, hm_set]; exact Nat.le_refl _
  · have hXn : X.length = n := (nI_eq' (by omega) (by omega)).mp (Classical.not_not.mp c)
    obtain ⟨g1, g2, g3, g4⟩ := gcap_bd a7 (by omega)
    refine (J2_grow_ hw A0 hXn (by omega) ho).rn ?_
    rintro _ _ hw1 - ⟨rfl, f', hf', rfl⟩
    have hl1 : l < hsz h := hlt hw a1
    have hln : l ≠ hsz h := by omega
    refine ⟨fun b hb => ?_, gcap n, f', X.length, ?_, ix_nI (by omega) (by omega), _, pfx (c := 11) (fs := [.int mc, .ref (hsz h), .int (nI X.length)]) ?_ rfl rfl rfl, rfl, hsz h, gcap n, _, ⟨?_, ?_, ?_, g3, hXa f' (fun i hi => hf' i (by omega)), fun e => absurd e (by omega), Or.inr g1⟩, ?_, Or.inr (Nat.le_refl _), ?_⟩
    · cases hb
      exact obk_set (obk_le oa (Le.new hw _ _)) (Or.inr ⟨11, _, rfl, by decide⟩)
    · rw [hset_ne _ _ hln.symm, hnew_at]
    · rw [hset_ne _ _ hln, hset_at]
    · rw [hset_at, List.length_append]
      show some (eO 11 [.int mc, .ref (hsz h), .int (nI X.length + 1)]) = _
      rw [show nI X.length + 1 = nI (X.length + 1) from nI_add' _ 1]
      rfl
    · rw [hset_ne _ _ hln.symm, hset_at]
    · rw [List.length_append]; show X.length + 1 ≤ _; omega
    · intro q e h1 h2 hq
      have := hlt hw hq
      rw [hset_ne _ _ h1, hset_ne _ _ (by omega), hset_ne _ _ h1]
      exact hnew_old hw hq
    · rw [hm_set, hm_set, hm_set, hm_new]; omega
theorem J2_add_ {a : Nat} (hw : hwf h) (A : AL G h l X mc ar n f) (hn : X.length ≤ 100) (ho : ∀ x ∈ X, obk h x) (oa : obk h a) :
    Do_ G M_J2_add [.ref l, .ref a] h (RI fun y h' => y = 1 ∧ ∃ ar' n' f', AL G h' l (X ++ [a]) (mc + 1) ar' n' f' ∧ WA l ar n h h' ar' n') := by
  have hne := A.ne
  have hl1 : l < hsz h := hlt hw A.1
  refine e_J2_add ⟨_, gfx A.1 rfl rfl, _, pfx A.1 rfl rfl rfl, _, gfx (hset_at _ _ _) rfl rfl, _, gfx (hset_at _ _ _) rfl rfl, cax (hset_at _ _ _), ?_⟩
  have A1 : AL G (hset h l (eO 11 [.int (mc + 1), .ref ar, .int (nI X.length)])) l X (mc + 1) ar n f := ⟨hset_at _ _ _, by rw [hset_ne _ _ hne.symm]; exact A.2.1, A.2.2⟩
  refine (J2_add_2_ (hwf_set hw _ hl1) A1 hn (fun x hx => obk_set (ho x hx) (Or.inr ⟨11, _, rfl, by decide⟩)) (obk_set oa (Or.inr ⟨11, _, rfl, by decide⟩))).rv ?_
  rintro h' - - ⟨ar', n', f', k1, k2, k3, k4⟩
  refine ⟨nI_b1, _, rfl, rfl, ar', n', f', k1, fun q e h1 h2 hq => k2 q e h1 h2 (by rw [hset_ne _ _ h1]; exact hq), k3, ?_⟩
  rw [hm_set] at k4
  exact k4
end AA
