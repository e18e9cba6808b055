/-! SPECS 16: a shelf is made, copied -/
set_option maxRecDepth 100000
theorem ers_ins {α : Type} (a : α) : ∀ (k : Nat) (l : List α), k < l.length → (l.eraseIdx k).insertIdx k a = l.set k a
  | _, [], h => by simp at h
  | 0, x :: t, h => by simp
  | k + 1, x :: t, h => by
    have := ers_ins a k t (by simpa using h)
    simp [this]
theorem set_snd {α β : Type} {k : Nat} {a : α × β} {l : List (α × β)} (h : (l.map Prod.snd)[k]? = some a.2) : (l.set k a).map Prod.snd = l.map Prod.snd := by
  rw [List.map_set]
  apply List.ext_getElem?
  intro i
  rw [List.getElem?_set]
  by_cases hi : k = i
  · subst hi
    rw [if_pos rfl]
    have := (List.getElem?_eq_some_iff.mp h).1
    rw [if_pos this, h]
  · rw [if_neg hi]
theorem KL.tr {l ar n ar1 n1 : Nat} {h h1 h2 : hp_} (hw : hwf h) (k : KL l ar n h h1) (c : (ar1 = ar ∧ n1 = n) ∨ hsz h ≤ ar1) (k2 : KL l ar1 n1 h1 h2) : KL l ar n h h2 := fun q e a b z => by
  have := hlt hw z
  exact k2 q e a (by omega) (k q e a b z)
theorem Le.kl {l ar n : Nat} {h h1 : hp_} (x : Le h h1) : KL l ar n h h1 := fun q e _ _ z => x q e z
section D16
variable {G : g_} {lo : Nat} {h : hp_} {s d el ar n tl ta nt : Nat} {E : List EN} {F : List (EN × tt_)} {bl : Nat} {K : List (Nat × tt_)} {sq gb : Int32} {σ : sg_} {N : Nat}
theorem X1_detach_ (hw : hwf h) (S : hget h s = some (eO 1 [.ref d, .ref tl, .int sq, .int gb])) (D : DR G h d el ar n E bl) (hlo : lo ≤ hsz h) :
    Do_ G M_X1_detach [.ref s] h (RV fun h' => ∃ ar' n' E', DR G h' d el ar' n' E' bl ∧ E'.map Prod.snd = E.map Prod.snd ∧ (∀ e ∈ E', lo ≤ ea e) ∧ KL el ar n h h' ∧ ((ar' = ar ∧ n' = n) ∨ hsz h ≤ ar') ∧ hm h' + 4 * n ≤ hm h + 4 * n' + 4 * E.length) := by
  have hl := D.len
  have hne1 : s ≠ el := by
    obtain ⟨mc, f, d2⟩ := D.2.1
    exact hgn S d2.1 (by simp)
  have hne2 : s ≠ ar := by
    obtain ⟨mc, f, d2⟩ := D.2.1
    exact hgn S d2.2.1 (by simp)
  have key : ∀ (j k : Nat) (h1 : hp_) (ar1 n1 : Nat) (E1 : List EN), E.length - k = j → k ≤ E.length → hwf h1 → DR G h1 d el ar1 n1 E1 bl → E1.map Prod.snd = E.map Prod.snd → (∀ (i : Nat) (e : EN), i < k → E1[i]? = some e → lo ≤ ea e) → KL el ar n h h1 → ((ar1 = ar ∧ n1 = n) ∨ hsz h ≤ ar1) → hsz h ≤ hsz h1 → hm h1 + 4 * n ≤ hm h + 4 * n1 + 4 * k →
      Go_ G M_X1_detach 2 [some (.ref s), some (.int (nI k)), none] [] h1 (RV fun h' => ∃ ar' n' E', DR G h' d el ar' n' E' bl ∧ E'.map Prod.snd = E.map Prod.snd ∧ (∀ e ∈ E', lo ≤ ea e) ∧ KL el ar n h h' ∧ ((ar' = ar ∧ n' = n) ∨ hsz h ≤ ar') ∧ hm h' + 4 * n ≤ hm h + 4 * n' + 4 * E.length) := by
    intro j
    induction j with
    | zero =>
      intro k h1 ar1 n1 E1 hj hk w1 D1 e1 e2 kl c1 s1 m1
      have hlen : E1.length = E.length := by have := congrArg List.length e1; rwa [List.length_map, List.length_map] at this
      have S1 : hget h1 s = _ := kl _ _ hne1 (Or.inl hne2) S
      have D1' := D1
      obtain ⟨d1, ⟨mc, f, d2⟩, d3⟩ := D1
      refine w_X1_detach_2 ⟨_, gfx S1 rfl rfl, _, gfx d1 rfl rfl, cax d2.1, (J2_size_ d2).use ⟨fun _ => ⟨rfl, ar1, n1, E1, D1', e1, fun e he => ?_, kl, c1, by omega⟩, fun c => ?_⟩⟩
      · obtain ⟨i, hi⟩ := List.getElem?_of_mem he
        have := (List.getElem?_eq_some_iff.mp hi).1
        exact e2 i e (by omega) hi
      · rw [List.length_map] at c
        exact absurd ((nI_le' (by omega) (by omega)).mpr (by omega)) c
    | succ j ih =>
      intro k h1 ar1 n1 E1 hj hk w1 D1 e1 e2 kl c1 s1 m1
      have hlen : E1.length = E.length := by have := congrArg List.length e1; rwa [List.length_map, List.length_map] at this
      have S1 : hget h1 s = _ := kl _ _ hne1 (Or.inl hne2) S
      have D1' := D1
      obtain ⟨d1, ⟨mc, f, d2⟩, d3, d4, d5⟩ := D1
      have hkl : k < E1.length := by omega
      have hx : E1[k]? = some E1[k] := List.getElem?_eq_getElem hkl
      have hxa : (E1.map ea)[k]? = some (ea E1[k]) := by rw [List.getElem?_map, hx]; rfl
      have ke := D1'.at hx
      have ob : ∀ x ∈ E1.map ea, obk h1 x := by
        intro x hx
        obtain ⟨y, hy, rfl⟩ := List.mem_map.mp hx
        exact (d3 y hy).obk
      have hn1 : n1 ≠ 0 := by
        have := d2.2.2.1
        rw [List.length_map] at this
        omega
      have hsel : s ≠ ar1 := hgn S1 d2.2.1 (by simp)
      have hd1 : d ≠ el := hgn d1 d2.1 (by simp)
      have hd2 : d ≠ ar1 := hgn d1 d2.2.1 (by simp)
      obtain ⟨c, hc1, hc2⟩ := ke.cls
      refine w_X1_detach_2 ⟨_, gfx S1 rfl rfl, _, gfx d1 rfl rfl, cax d2.1, (J2_size_ d2).use ⟨fun c => ?_, fun _ => ⟨_, gfx S1 rfl rfl, _, gfx d1 rfl rfl, cax d2.1, (J2_get_ d2 hxa).use ⟨c, hc1, hc2, _, gfx S1 rfl rfl, _, gfx d1 rfl rfl, cax d2.1, (J2_remove_ d2 hxa ob).rn ?_⟩⟩⟩⟩
      · rw [List.length_map] at c
        have := (nI_le' (by omega) (by omega)).mp c
        omega
      · rintro _ h2 w2 hs2 ⟨rfl, ⟨f2, A2⟩, m2⟩
        have k2 : KL el ar1 n1 h1 h2 := m2.kl hn1
        have S2 : hget h2 s = _ := k2 _ _ hne1 (Or.inl hsel) S1
        have D2 : hget h2 d = _ := k2 _ _ hd1 (Or.inl hd2) d1
        have ke2 : ent h2 E1[k] := ke.kl d2 k2
        refine ⟨_, gfx S2 rfl rfl, _, gfx D2 rfl rfl, _, ke2.name, named_ w2 ke2 ?_⟩
        generalize hz : (if (eg E1[k]).isSome then 3 else 2) = z
        have hz3 : z ≤ 3 := by rw [← hz]; split <;> omega
        have w3 : hwf (hnew h2 (ecell (en E1[k]) (eg E1[k]) (et E1[k])) z) := hwf_new w2 _ _
        have l3 : Le h2 (hnew h2 (ecell (en E1[k]) (eg E1[k]) (et E1[k])) z) := Le.new w2 _ _
        have kn : ent (hnew h2 (ecell (en E1[k]) (eg E1[k]) (et E1[k])) z) (hsz h2, E1[k].2) := ⟨hnew_at _ _ _, ke.2⟩
        have m3 : hm (hnew h2 (ecell (en E1[k]) (eg E1[k]) (et E1[k])) z) = hm h2 + (z + 1) := hm_new _ _ _
        have s3 : hsz (hnew h2 (ecell (en E1[k]) (eg E1[k]) (et E1[k])) z) = hsz h2 + 1 := hsz_new _ _ _
        generalize hnew h2 (ecell (en E1[k]) (eg E1[k]) (et E1[k])) z = h3 at w3 l3 kn m3 s3 ⊢
        have A3 := A2.le l3
        rw [← map_ers] at A3
        have ob3 : ∀ x ∈ (E1.eraseIdx k).map ea, obk h3 x := by
          intro x hx
          obtain ⟨y, hy, rfl⟩ := List.mem_map.mp hx
          exact (((d3 y (mem_ers hy)).kl d2 k2).le l3).obk
        have hle : (E1.eraseIdx k).length = E.length - 1 := by rw [List.length_eraseIdx, if_pos hkl, hlen]
        refine ⟨cax A3.1, (J2_add_3_ (i := k) (a := hsz h2) w3 A3 (by rw [List.length_map]; omega) (by rw [List.length_map]; omega) ob3 kn.obk).rv ?_⟩
        rintro h4 w4 s4 ⟨ar', n', f', A4, W⟩
        have k4 : KL el ar1 n1 h3 h4 := W.1
        have k14 : KL el ar1 n1 h1 h4 := KL.tr w1 k2 (Or.inl ⟨rfl, rfl⟩) (KL.pre l3 k4)
        have hmap : ((E1.eraseIdx k).map ea).insertIdx k (hsz h2) = (E1.set k (hsz h2, E1[k].2)).map ea := by
          rw [← ers_ins _ _ _ hkl, map_ins]
        rw [hmap] at A4
        have D4 : DR G h4 d el ar' n' (E1.set k (hsz h2, E1[k].2)) bl := by
          refine ⟨k14 _ _ hd1 (Or.inl hd2) d1, ⟨_, f', A4⟩, fun y hy => ?_, by rw [List.length_set]; exact d4, d5⟩
          rcases List.mem_or_eq_of_mem_set hy with hy | rfl
          · exact (d3 y hy).kl d2 k14
          · exact kn.kl A3 k4
        have k04 : KL el ar n h h4 := KL.tr hw kl c1 k14
        rw [show nI k + 1 = nI (k + 1) from nI_add' k 1]
        have hm2 := m2.2
        have hW := W.2.2
        refine ih (k + 1) h4 ar' n' _ (by omega) (by omega) w4 D4 ?_ ?_ k04 ?_ (by omega) (by omega)
        · rw [set_snd, e1]
          rw [List.getElem?_map, hx]; rfl
        · intro i e hi he
          rw [List.getElem?_set] at he
          by_cases hik : k = i
          · rw [if_pos hik, if_pos hkl] at he
            have he := Option.some.inj he
            subst he
            show lo ≤ hsz h2
            omega
          · rw [if_neg hik] at he
            exact e2 i e (by omega) he
        · rcases W.2.1 with ⟨z1, z2, z3⟩ | z1
          · rw [z1, z2]; exact c1
          · right; omega
  refine e_X1_detach ?_
  exact key E.length 0 h ar n E (by omega) (Nat.zero_le _) hw D rfl (fun i e hi => absurd hi (by omega)) (fun _ _ _ _ z => z) (Or.inl ⟨rfl, rfl⟩) (Nat.le_refl _) (by omega)
theorem X1_init_ {v0 v1 : Value} {f : Nat → Option Nat} (hw : hwf h) (hz : hget h (gz G) = some (eR 0 f)) (B : hget h s = some (eO 1 [v0, v1, .int 0, .int 0])) :
    Do_ G M_X1_init [.ref s] h (RV fun h' => ∃ d el tl, hget h' s = some (eO 1 [.ref d, .ref tl, .int 0, .int 0]) ∧ DR G h' d el (gz G) 0 [] 2 ∧ AL G h' tl [] 0 (gz G) 0 f ∧ hsz h ≤ d ∧ hsz h ≤ el ∧ hsz h ≤ tl ∧ el ≠ tl ∧ K1 s h h' ∧ hm h' ≤ hm h + 11) := by
  have hs := hlt hw B
  have hzl := hlt hw hz
  have hw1 : hwf (hnew h (eO 2 [.null, .int 0]) 2) := hwf_new hw _ _
  have z1 : hsz (hnew h (eO 2 [.null, .int 0]) 2) = hsz h + 1 := hsz_new _ _ _
  refine e_X1_init ⟨cax (hnew_at _ _ _), (X2_init_ hw1 (hnew_old hw hz) (hnew_at _ _ _)).rv ?_⟩
  rintro h1 w1 s1 ⟨D1, k1, m1⟩
  rw [z1] at D1 s1
  rw [hm_new] at m1
  have B1 : hget h1 s = _ := k1 _ _ (by omega) (hnew_old hw B)
  have hz2 : hget h1 (gz G) = _ := k1 _ _ (by omega) (hnew_old hw hz)
  have hel : hsz h + 1 < hsz h1 := by
    obtain ⟨mc, f, d2⟩ := D1.2.1
    exact hlt w1 d2.1
  refine ⟨_, pfx B1 rfl rfl rfl, ?_⟩
  have w2 : hwf (hset h1 s (eO 1 [.ref (hsz h), v1, .int 0, .int 0])) := hwf_set w1 _ (hlt w1 B1)
  have w3 : hwf (hnew (hset h1 s (eO 1 [.ref (hsz h), v1, .int 0, .int 0])) (eO 11 [.int 0, .null, .int 0]) 3) := hwf_new w2 _ _
  have hgz : gz G ≠ s := hgn hz B (by simp)
  refine ⟨cax (hnew_at _ _ _), (J2_init_ (v3 := 0) (f := f) w3 (hnew_old w2 (by rw [hset_ne _ _ hgz]; exact hz2)) (hnew_at _ _ _)).rv ?_⟩
  rintro h4 w4 s4 ⟨A, rfl⟩
  have zs : hsz (hset h1 s (eO 1 [.ref (hsz h), v1, .int 0, .int 0])) = hsz h1 := hsz_set _ _ _
  show ∃ h4, pf fd_X1_texts (hset (hnew (hset h1 s (eO 1 [.ref (hsz h), v1, .int 0, .int 0])) (eO 11 [.int 0, .null, .int 0]) 3) (hsz (hset h1 s (eO 1 [.ref (hsz h), v1, .int 0, .int 0]))) (eO 11 [.int 0, .ref (gz G), .int 0])) s (.ref (hsz (hset h1 s (eO 1 [.ref (hsz h), v1, .int 0, .int 0])))) = some h4 ∧ _
  rw [hset_new] at A ⊢
  have B4 : hget (hnew (hset h1 s (eO 1 [.ref (hsz h), v1, .int 0, .int 0])) (eO 11 [.int 0, .ref (gz G), .int 0]) 3) s = some (eO 1 [.ref (hsz h), v1, .int 0, .int 0]) := hnew_old w2 (hset_at _ _ _)
  have keep : ∀ q e, q ≠ s → hget h1 q = some e → hget (hset (hnew (hset h1 s (eO 1 [.ref (hsz h), v1, .int 0, .int 0])) (eO 11 [.int 0, .ref (gz G), .int 0]) 3) s (eO 1 [.ref (hsz h), .ref (hsz h1), .int 0, .int 0])) q = some e := by
    intro q e hq z
    rw [hset_ne _ _ hq]
    exact hnew_old w2 (by rw [hset_ne _ _ hq]; exact z)
  rw [zs] at A ⊢
  refine ⟨_, pfx B4 rfl rfl rfl, rfl, hsz h, hsz h + 1, hsz h1, hset_at _ _ _, ?_, ?_, Nat.le_refl _, by omega, by omega, by omega, ?_, ?_⟩
  · obtain ⟨d1, ⟨mc, f2, d2⟩, d3, d4⟩ := D1
    exact ⟨keep _ _ (by omega) d1, ⟨mc, f2, keep _ _ (by omega) d2.1, keep _ _ (by omega) d2.2.1, d2.2.2⟩, fun e he => by simp at he, d4⟩
  · exact A.kept (hset_ne _ _ (by omega)) (hset_ne _ _ hgz)
  · intro q e hq z
    have := hlt hw z
    exact keep _ _ hq (k1 _ _ (by omega) (hnew_old hw z))
  · rw [hm_set, hm_new, hm_set]
    omega
end D16
