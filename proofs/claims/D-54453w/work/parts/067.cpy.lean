/-! SPECS 17: a shelf is copied -/
set_option maxRecDepth 100000
theorem sepL {h : hp_} {ar n ta nt : Nat} {f g : Nat → Option Nat} (c : ar ≠ ta ∨ n = 0 ∨ nt = 0) (a : hget h ar = some (eR n f)) (b : hget h ta = some (eR nt g)) : ta ≠ ar ∨ n = 0 := by
  by_cases e : ta = ar
  · subst e
    rw [a] at b
    have : n = nt := by
      have b := Option.some.inj b
      simp [eR] at b
      exact b.1
    omega
  · exact Or.inl e
theorem sepR {h : hp_} {ar n ta nt : Nat} {f g : Nat → Option Nat} (c : ar ≠ ta ∨ n = 0 ∨ nt = 0) (a : hget h ar = some (eR n f)) (b : hget h ta = some (eR nt g)) : ar ≠ ta ∨ nt = 0 := by
  by_cases e : ta = ar
  · subst e
    rw [a] at b
    have : n = nt := by
      have b := Option.some.inj b
      simp [eR] at b
      exact b.1
    omega
  · exact Or.inl (fun q => e q.symm)
theorem zipF {E : List EN} {F : List (EN × tt_)} {K : List (Nat × tt_)} (e : E.map Prod.snd = (F.map Prod.fst).map Prod.snd) (hF : ∀ x ∈ F, (et x.1, x.2) ∈ K) :
    (E.zip (F.map Prod.snd)).map Prod.fst = E ∧ (E.zip (F.map Prod.snd)).map rwo = F.map rwo ∧ ∀ x ∈ E.zip (F.map Prod.snd), (et x.1, x.2) ∈ K := by
  have hlen : E.length = F.length := by
    have := congrArg List.length e
    simpa using this
  have at_ : ∀ (i : Nat) (x : EN × tt_), (E.zip (F.map Prod.snd))[i]? = some x → ∃ y, F[i]? = some y ∧ x.2 = y.2 ∧ x.1.2 = y.1.2 := by
    intro i x hx
    rw [List.getElem?_zip_eq_some] at hx
    obtain ⟨h1, h2⟩ := hx
    rw [List.getElem?_map] at h2
    cases hy : F[i]? with
    | none => rw [hy] at h2; cases h2
    | some y =>
      rw [hy] at h2
      refine ⟨y, rfl, ?_, ?_⟩
      · have : y.2 = x.2 := Option.some.inj h2
        exact this.symm
      · have e1 := congrArg (fun l => l[i]?) e
        simp only [List.getElem?_map, h1, hy, Option.map_some] at e1
        exact Option.some.inj e1
  refine ⟨?_, ?_, ?_⟩
  · exact List.map_fst_zip (by rw [List.length_map]; omega)
  · apply List.ext_getElem?
    intro i
    rw [List.getElem?_map, List.getElem?_map]
    cases hx : (E.zip (F.map Prod.snd))[i]? with
    | none =>
      rw [List.getElem?_eq_none_iff, List.length_zip, List.length_map] at hx
      rw [List.getElem?_eq_none (by omega)]
    | some x =>
      obtain ⟨y, h1, h2, h3⟩ := at_ i x hx
      rw [h1]
      show some (rwo x) = some (rwo y)
      unfold rwo en eg
      rw [h2, h3]
  · intro x hx
    obtain ⟨i, hi⟩ := List.getElem?_of_mem hx
    obtain ⟨y, h1, h2, h3⟩ := at_ i x hi
    have := hF y (List.mem_of_getElem? h1)
    rw [h2]
    unfold et at this ⊢
    rw [h3]
    exact this
section D17
variable {G : g_} {lo : Nat} {h : hp_} {s : Nat} {σ : sg_} {N : Nat}
theorem X1_copy_ {f0 : Nat → Option Nat} (hw : hwf h) (hz : hget h (gz G) = some (eR 0 f0)) (A : SHL G lo h s σ N) (Wσ : WS σ) :
    Do_ G M_X1_copy [.ref s] h (RN fun y h' => y = hsz h ∧ ∃ N', SHL G (hsz h) h' y σ N' ∧ Le h h' ∧ hm h' ≤ hm h + 4 * N' + 160) := by
  obtain ⟨dS, elS, arS, nS, tlS, taS, ntS, F, K, A, eR_, eT, -⟩ := A
  obtain ⟨R, T, bl, sq, gb⟩ := σ
  have eR_ : R = F.map rwo := eR_
  have eT : T = K.map Prod.snd := eT
  obtain ⟨a1, a2, ⟨mtS, ftS, a3⟩, a4, a5, -⟩ := A
  have hc : chn 0 T := Wσ.2.2.2.2.2.1
  have ht : tsum T ≤ 100 := Wσ.2.2.2.2.2.2
  have hK : K.length ≤ 100 := by have := chn_len hc; rw [eT, List.length_map, ← eT] at this; omega
  have hE := a2.len
  have hs := hlt hw a1
  have key : ∀ (j i : Nat) (h6 : hp_) (d el ar n tl ta nt it : Nat) (mt : Int32) (ft : Nat → Option Nat), K.length - i = j → i ≤ K.length → hwf h6 → Le h h6 → hget h6 (hsz h) = some (eO 1 [.ref d, .ref tl, .int 0, .int 0]) → DR G h6 d el ar n (F.map Prod.fst) bl → AL G h6 tl ((K.take i).map Prod.fst) mt ta nt ft → IT h6 it tlS mtS i → hsz h ≤ it →
      hsz h ≤ d → hsz h ≤ el → (hsz h ≤ ar ∨ n = 0) → hsz h ≤ tl → (hsz h ≤ ta ∨ nt = 0) → el ≠ tl → (ar ≠ ta ∨ n = 0 ∨ nt = 0) → hm h6 ≤ hm h + 4 * n + 4 * nt + 33 →
      Go_ G M_X1_copy 29 [some (.ref s), some (.ref (hsz h)), some (.ref it), none] [] h6 (RN fun y h' => y = hsz h ∧ ∃ N', SHL G (hsz h) h' y (R, T, bl, sq, gb) N' ∧ Le h h' ∧ hm h' ≤ hm h + 4 * N' + 160) := by
    intro j
    induction j with
    | zero =>
      intro i h6 d el ar n tl ta nt it mt ft hj hi w6 l6 S6 D6 A6 I6 it6 b1 b2 b3 b4 b5 b6 b7 m6
      have I0 := I6
      obtain ⟨_, I⟩ := I6
      have aS := a3.le l6
      refine w_X1_copy_29 ⟨cax I, (J13_hasNext_ aS I0 (by rw [List.length_map]; omega)).use ⟨fun _ => ⟨cax S6, (X1_detach_ (lo := hsz h) w6 S6 D6 (by have := hlt w6 S6; omega)).rv ?_⟩, fun c => ?_⟩⟩
      · rintro h7 w7 s7 ⟨ar', n', E', D7, e7, lo7, k7, c7, m7⟩
        obtain ⟨mc6, f6, AL6⟩ := D6.2.1
        have d6ne : d ≠ hsz h := hgn D6.1 S6 (by simp)
        have l7 : Le h h7 := KL.le hw l6 b2 b3 k7
        have S7 : hget h7 (hsz h) = _ := k7 _ _ (hgn S6 AL6.1 (by simp)) (Or.inl (hgn S6 AL6.2.1 (by simp))) S6
        have A7 : AL G h7 tl ((K.take i).map Prod.fst) mt ta nt ft := ⟨k7 _ _ (Ne.symm b6) (Or.inl (hgn A6.1 AL6.2.1 (by simp))) A6.1, k7 _ _ (hgn A6.2.1 AL6.1 (by simp)) (sepL b7 AL6.2.1 A6.2.1) A6.2.1, A6.2.2⟩
        rw [List.take_of_length_le (by omega)] at A7
        have s1 : hget h7 s = _ := l7 _ _ a1
        have s2 : hget (hset h7 (hsz h) (eO 1 [.ref d, .ref tl, .int sq, .int 0])) s = some (eO 1 [.ref dS, .ref tlS, .int sq, .int gb]) := by rw [hset_ne _ _ (by omega)]; exact s1
        refine ⟨_, gfx s1 rfl rfl, _, pfx S7 rfl rfl rfl, _, gfx s2 rfl rfl, _, pfx (hset_at _ _ _) rfl rfl rfl, _, rfl, rfl, n' + nt, ?_, ?_, ?_⟩
        · obtain ⟨z1, z2, z3⟩ := zipF e7 a5
          have kp : ∀ q e, q ≠ hsz h → hget h7 q = some e → hget (hset (hset h7 (hsz h) (eO 1 [.ref d, .ref tl, .int sq, .int 0])) (hsz h) (eO 1 [.ref d, .ref tl, .int sq, .int gb])) q = some e := fun q e hq z => by
            rw [hset_ne _ _ hq, hset_ne _ _ hq]; exact z
          obtain ⟨d1, ⟨mc, f2, d2⟩, d3, d4⟩ := D7
          refine ⟨d, el, ar', n', tl, ta, nt, E'.zip (F.map Prod.snd), K, ⟨hset_at _ _ _, ?_, ?_, ?_, z3, Nat.le_refl _, b1, b2, ?_, b4, b5, b6, ?_, ?_⟩, by rw [eR_, z2], eT, rfl⟩
          · rw [z1]
            refine ⟨kp _ _ d6ne d1, ⟨mc, f2, kp _ _ (hgn d2.1 S7 (by simp)) d2.1, kp _ _ (hgn d2.2.1 S7 (by simp)) d2.2.1, d2.2.2⟩, fun e he => ⟨kp _ _ ?_ (d3 e he).1, (d3 e he).2⟩, d4⟩
            have k1 := (d3 e he).1
            obtain ⟨a, nm, g, t⟩ := e
            cases g with
            | none => exact hgn k1 S7 (by simp [ecell])
            | some x => exact hgn k1 S7 (by simp [ecell])
          · exact ⟨mt, ft, kp _ _ (hgn A7.1 S7 (by simp)) A7.1, kp _ _ (hgn A7.2.1 S7 (by simp)) A7.2.1, A7.2.2⟩
          · intro k hk
            exact kp _ _ (by have := hlt hw (a4 k hk); omega) (l7 _ _ (a4 k hk))
          · rcases c7 with ⟨q1, q2⟩ | q
            · rw [q1, q2]; exact b3
            · left; have := hlt w6 S6; omega
          · rcases c7 with ⟨q1, q2⟩ | q
            · rw [q1, q2]; exact b7
            · left
              have := hlt w6 A6.2.1
              omega
          · intro x hx
            have : x.1 ∈ E' := by rw [← z1]; exact List.mem_map_of_mem hx
            exact lo7 _ this
        · intro q e z
          have := hlt hw z
          rw [hset_ne _ _ (by omega), hset_ne _ _ (by omega)]
          exact l7 _ _ z
        · rw [hm_set, hm_set]
          rw [List.length_map] at m7 hE
          omega
      · rw [List.length_map, decide_eq_false (by omega)] at c
        exact absurd rfl c
    | succ j ih =>
      intro i h6 d el ar n tl ta nt it mt ft hj hi w6 l6 S6 D6 A6 I6 it6 b1 b2 b3 b4 b5 b6 b7 m6
      have hx : K[i]? = some K[i] := List.getElem?_eq_getElem (by omega)
      have I0 := I6
      obtain ⟨_, I⟩ := I6
      have aS := a3.le l6
      refine w_X1_copy_29 ⟨cax I, (J13_hasNext_ aS I0 (by rw [List.length_map]; omega)).use ⟨fun c => ?_, fun _ => ⟨cax I, (J13_next_ (x := K[i].1) aS I0 (by rw [List.getElem?_map, hx]; rfl)).rn ?_⟩⟩⟩
      · rw [List.length_map, decide_eq_true (by omega)] at c
        exact absurd c (by decide)
      · rintro _ h7 w7 - ⟨rfl, e7⟩
        have kp : ∀ q e, q ≠ it → hget h6 q = some e → hget h7 q = some e := fun q e hq z => by rw [e7, hset_ne _ _ hq]; exact z
        have l7 : Le h h7 := fun q e z => kp _ _ (by have := hlt hw z; omega) (l6 _ _ z)
        have S7 := kp _ _ (hgn S6 I (by simp)) S6
        have A7 : AL G h7 tl ((K.take i).map Prod.fst) mt ta nt ft := ⟨kp _ _ (hgn A6.1 I (by simp)) A6.1, kp _ _ (hgn A6.2.1 I (by simp)) A6.2.1, A6.2.2⟩
        have m7 : hm h7 = hm h6 := by rw [e7, hm_set]
        have J7 : IT h7 it tlS mtS (i + 1) := ⟨_, by rw [e7]; exact hset_at _ _ _⟩
        have kt : txt h7 _ _ _ _ := (a4 _ (List.mem_of_getElem? hx)).le l7
        have kt0 : hget h7 K[i].1 = _ := kt
        have ob : ∀ x ∈ (K.take i).map Prod.fst, obk h7 x := by
          intro x hx
          obtain ⟨y, hy, rfl⟩ := List.mem_map.mp hx
          exact Or.inl ⟨7, _, (a4 y (List.mem_of_mem_take hy)).le l7, by decide⟩
        have D7 : DR G h7 d el ar n (F.map Prod.fst) bl := by
          obtain ⟨d1, ⟨mc, f2, d2⟩, d3, d4⟩ := D6
          exact ⟨kp _ _ (hgn d1 I (by simp)) d1, ⟨mc, f2, kp _ _ (hgn d2.1 I (by simp)) d2.1, kp _ _ (hgn d2.2.1 I (by simp)) d2.2.1, d2.2.2⟩, fun e he => (a2.2.2.1 e he).le l7, d4⟩
        refine ⟨7, cax kt, by simp, _, gfx S7 rfl rfl, cax A7.1, (J2_add_ w7 A7 (by rw [List.length_map, List.length_take]; omega) ob (Or.inl ⟨7, _, kt, by decide⟩)).ri ?_⟩
        rintro _ h8 w8 s8 ⟨-, ta', nt', ft', A8, W⟩
        have k8 : KL tl ta nt h7 h8 := W.1
        have htk : (K.take i).map Prod.fst ++ [K[i].1] = (K.take (i + 1)).map Prod.fst := by
          rw [List.take_add_one, hx, List.map_append]; rfl
        rw [htk] at A8
        have D8 : DR G h8 d el ar n (F.map Prod.fst) bl := by
          obtain ⟨d1, ⟨mc, f2, d2⟩, d3, d4⟩ := D7
          exact ⟨k8 _ _ (hgn d1 A7.1 (by simp)) (Or.inl (hgn d1 A7.2.1 (by simp))) d1, ⟨mc, f2, k8 _ _ b6 (Or.inl (hgn d2.1 A7.2.1 (by simp))) d2.1, k8 _ _ (hgn d2.2.1 A7.1 (by simp)) (sepR b7 d2.2.1 A7.2.1) d2.2.1, d2.2.2⟩, fun e he => (d3 e he).kl A7 k8, d4⟩
        obtain ⟨_, J7⟩ := J7
        refine ih (i + 1) h8 d el ar n tl ta' nt' it _ ft' (by omega) (by omega) w8 (KL.le hw l7 b4 b5 k8) (k8 _ _ (hgn S7 A7.1 (by simp)) (Or.inl (hgn S7 A7.2.1 (by simp))) S7) D8 A8 ⟨_, k8 _ _ (hgn J7 A7.1 (by simp)) (Or.inl (hgn J7 A7.2.1 (by simp))) J7⟩ it6 b1 b2 b3 b4 ?_ b6 ?_ ?_
        · rcases W.2.1 with ⟨q1, q2, q3⟩ | q
          · rw [q1]; exact Or.inl (b5.resolve_right q3)
          · left; have := hlt w7 S7; omega
        · rcases W.2.1 with ⟨q1, q2, q3⟩ | q
          · rw [q1, q2]; exact b7
          · left
            obtain ⟨d1, ⟨mc, f2, d2⟩, d3, d4⟩ := D7
            have := hlt w7 d2.2.1
            omega
        · have := W.2.2
          omega
  have w1 : hwf (hnew h (eO 1 [.null, .null, .int 0, .int 0]) 4) := hwf_new hw _ _
  have z1 : hsz (hnew h (eO 1 [.null, .null, .int 0, .int 0]) 4) = hsz h + 1 := hsz_new _ _ _
  have m1 : hm (hnew h (eO 1 [.null, .null, .int 0, .int 0]) 4) = hm h + 5 := hm_new _ _ _
  refine e_X1_copy ⟨cax (hnew_at _ _ _), (X1_init_ w1 (hnew_old hw hz) (hnew_at _ _ _)).rv ?_⟩
  rintro h1 w1' s1 ⟨d0, el0, tl0, S1, D1, A1, c1, c2, c3, c4, k1, m2⟩
  rw [z1] at c1 c2 c3
  have l1 : Le h h1 := fun q e z => k1 _ _ (by have := hlt hw z; omega) (hnew_old hw z)
  have hz1 : hget h1 (gz G) = _ := l1 _ _ hz
  refine ⟨_, gfx (l1 _ _ a1) rfl rfl, cax (l1 _ _ a2.1), (X2_copy_ w1' hz1 (a2.le l1)).rn ?_⟩
  rintro _ h4 w4 s4 ⟨rfl, el, ar, n, D4, c5, c6, l4, m4⟩
  have l04 := l1.trans l4
  have htl := hlt w1' A1.1
  have S4 := l4 _ _ S1
  refine ⟨_, pfx S4 rfl rfl rfl, ?_⟩
  have kp : ∀ q e, q ≠ hsz h → hget h4 q = some e → hget (hset h4 (hsz h) (eO 1 [.ref (hsz h1), .ref tl0, .int 0, .int 0])) q = some e := fun q e hq z => by
    rw [hset_ne _ _ hq]; exact z
  have l5 : Le h (hset h4 (hsz h) (eO 1 [.ref (hsz h1), .ref tl0, .int 0, .int 0])) := fun q e z => kp _ _ (by have := hlt hw z; omega) (l04 _ _ z)
  have w5 : hwf (hset h4 (hsz h) (eO 1 [.ref (hsz h1), .ref tl0, .int 0, .int 0])) := hwf_set w4 _ (hlt w4 S4)
  have D5 : DR G (hset h4 (hsz h) (eO 1 [.ref (hsz h1), .ref tl0, .int 0, .int 0])) (hsz h1) el ar n (F.map Prod.fst) bl := by
    obtain ⟨d1, ⟨mc, f2, d2⟩, d3, d4⟩ := D4
    exact ⟨kp _ _ (hgn d1 S4 (by simp)) d1, ⟨mc, f2, kp _ _ (hgn d2.1 S4 (by simp)) d2.1, kp _ _ (hgn d2.2.1 S4 (by simp)) d2.2.1, d2.2.2⟩, fun e he => (a2.2.2.1 e he).le l5, d4⟩
  have A5 : AL G (hset h4 (hsz h) (eO 1 [.ref (hsz h1), .ref tl0, .int 0, .int 0])) tl0 [] 0 (gz G) 0 f0 := by
    have A4 := A1.le l4
    exact ⟨kp _ _ (hgn A4.1 S4 (by simp)) A4.1, kp _ _ (hgn A4.2.1 S4 (by simp)) A4.2.1, A4.2.2⟩
  have S5 : hget (hset h4 (hsz h) (eO 1 [.ref (hsz h1), .ref tl0, .int 0, .int 0])) (hsz h) = _ := hset_at _ _ _
  have m5 : hm (hset h4 (hsz h) (eO 1 [.ref (hsz h1), .ref tl0, .int 0, .int 0])) = hm h4 := hm_set _ _ _
  have z5 : hsz (hset h4 (hsz h) (eO 1 [.ref (hsz h1), .ref tl0, .int 0, .int 0])) = hsz h4 := hsz_set _ _ _
  rw [show hset h4 (hsz h) (eO 1 ([Value.ref d0, Value.ref tl0, Value.int 0, Value.int 0].set 0 (.ref (hsz h1)))) = hset h4 (hsz h) (eO 1 [.ref (hsz h1), .ref tl0, .int 0, .int 0]) from rfl]
  generalize hset h4 (hsz h) (eO 1 [.ref (hsz h1), .ref tl0, .int 0, .int 0]) = h5 at *
  refine ⟨_, gfx (l5 _ _ a1) rfl rfl, cax (l5 _ _ a3.1), (J2_iterator_ w5 (a3.le l5)).rn ?_⟩
  rintro _ h8 w8 s8 ⟨rfl, I8, l8, m8⟩
  exact key K.length 0 h8 (hsz h1) el ar n tl0 (gz G) 0 (hsz h5) 0 f0 rfl (Nat.zero_le _) w8 (l5.trans l8) (l8 _ _ S5) (D5.le l8) (A5.le l8) I8 (by omega) (by omega) (by omega) (by omega) (by omega) (Or.inr rfl) (by omega) (Or.inr (Or.inr rfl)) (by omega)
end D17
