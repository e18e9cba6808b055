/-! SPECS 25: the whole component's state; becoming -/
set_option maxRecDepth 100000
/-- the shelf of now, the snapshot, the history (oldest first), the pad -/
abbrev st_ : Type := sg_ × Option sg_ × List sg_ × List Nat
/-- a shelf that does not touch the array of the history -/
def SHX (G : g_) (h : hp_) (es s : Nat) (σ : sg_) : Prop := WS σ ∧ ∃ lo N, SHL G lo h s σ N ∧ (es < lo ∨ N = 0)
/-- all that is no part of the component's head is kept -/
def KV (es : Nat) (h h' : hp_) : Prop := ∀ q e, (∀ fs, e ≠ eO 0 fs) → (∀ fs, e ≠ eO 12 fs) → q ≠ es → hget h q = some e → hget h' q = some e
/-- what is the model's, is kept -/
def KM (h h' : hp_) : Prop := ∀ q e, ((∃ n f, e = eI n f) ∨ (∃ fs, e = eO 3 fs) ∨ (∃ f, e = eR 0 f)) → hget h q = some e → hget h' q = some e
theorem KM.tr {h h1 h2 : hp_} (a : KM h h1) (b : KM h1 h2) : KM h h2 := fun q e c z => b q e c (a q e c z)
theorem Le.km {h h1 : hp_} (a : Le h h1) : KM h h1 := fun q e _ z => a q e z
theorem KV.tr {es : Nat} {h h1 h2 : hp_} (a : KV es h h1) (b : KV es h1 h2) : KV es h h2 := fun q e c1 c2 c3 z => b q e c1 c2 c3 (a q e c1 c2 c3 z)
/-- all but ints' arrays and the model's head is kept -/
def KX (h h' : hp_) : Prop := ∀ q e, (∀ n f, e ≠ eI n f) → (∀ fs, e ≠ eO 3 fs) → hget h q = some e → hget h' q = some e
section D25
variable {G : g_} {h : hp_} {lo s es : Nat} {σ : sg_} {N : Nat}
theorem SHA.gen {h' : hp_} {d el ar n tl ta nt : Nat} {F : List (EN × tt_)} {bl : Nat} {K : List (Nat × tt_)} {sq gb : Int32} (A : SHA G lo h s d el ar n tl ta nt F bl K sq gb) (kO : ∀ q c fs, c ∈ ([1, 2, 5, 6, 7, 11] : List Nat) → hget h q = some (eO c fs) → hget h' q = some (eO c fs)) (ka : ∀ f, hget h ar = some (eR n f) → hget h' ar = some (eR n f)) (kt : ∀ f, hget h ta = some (eR nt f) → hget h' ta = some (eR nt f)) : SHA G lo h' s d el ar n tl ta nt F bl K sq gb := by
  obtain ⟨a1, ⟨d1, ⟨mc, f, d2⟩, d3, d4⟩, ⟨mt, ft, a3⟩, a4, a5⟩ := A
  refine ⟨kO _ _ _ (by simp) a1, ⟨kO _ _ _ (by simp) d1, ⟨mc, f, kO _ _ _ (by simp) d2.1, ka _ d2.2.1, d2.2.2⟩, fun e he => ⟨?_, (d3 e he).2⟩, d4⟩, ⟨mt, ft, kO _ _ _ (by simp) a3.1, kt _ a3.2.1, a3.2.2⟩, fun k hk => kO _ _ _ (by simp) (a4 k hk), a5⟩
  have k1 := (d3 e he).1
  obtain ⟨a, nm, g, t⟩ := e
  cases g with
  | none => exact kO _ _ _ (by simp) k1
  | some x => exact kO _ _ _ (by simp) k1
theorem SHX.le {h' : hp_} (A : SHX G h es s σ) (l : Le h h') : SHX G h' es s σ := by
  obtain ⟨w, lo, N, a, b⟩ := A
  exact ⟨w, lo, N, a.le l, b⟩
theorem SHX.cls (A : SHX G h es s σ) : cls_at h s = some 1 := by
  obtain ⟨w, lo, N, a, b⟩ := A
  exact a.cls
theorem SHX.kv {h' : hp_} {f17 : Nat → Option Nat} (A : SHX G h es s σ) (he : hget h es = some (eR 17 f17)) (k : KV es h h') : SHX G h' es s σ := by
  obtain ⟨w, lo, N, ⟨d, el, ar, n, tl, ta, nt, F, K, a, e1, e2, e3⟩, b⟩ := A
  refine ⟨w, lo, N, ⟨d, el, ar, n, tl, ta, nt, F, K, a.gen (fun q c fs hc z => ?_) (fun f z => ?_) (fun f z => ?_), e1, e2, e3⟩, b⟩
  · have h0 : c ≠ 0 ∧ c ≠ 12 := by
      simp only [List.mem_cons, List.not_mem_nil, or_false] at hc
      omega
    exact k _ _ (fun gs => by simp [h0.1]) (fun gs => by simp [h0.2]) (hgn z he (by simp)) z
  · refine k _ _ (fun gs => by simp) (fun gs => by simp) ?_ z
    have := a.2.2.2.2.2.2.2.2.1
    rcases b with b | b
    · rcases this with q | q
      · omega
      · exact hgn z he (by simp [q])
    · exact hgn z he (by simp; omega)
  · refine k _ _ (fun gs => by simp) (fun gs => by simp) ?_ z
    have := a.2.2.2.2.2.2.2.2.2.2.1
    rcases b with b | b
    · rcases this with q | q
      · omega
      · exact hgn z he (by simp [q])
    · exact hgn z he (by simp; omega)
theorem SHX.kx {h' : hp_} (A : SHX G h es s σ) (k : KX h h') : SHX G h' es s σ := by
  obtain ⟨w, lo, N, ⟨d, el, ar, n, tl, ta, nt, F, K, a, e1, e2, e3⟩, b⟩ := A
  refine ⟨w, lo, N, ⟨d, el, ar, n, tl, ta, nt, F, K, a.gen (fun q c fs hc z => ?_) (fun f z => ?_) (fun f z => ?_), e1, e2, e3⟩, b⟩
  · have h0 : c ≠ 3 := by
      simp only [List.mem_cons, List.not_mem_nil, or_false] at hc
      omega
    exact k _ _ (fun n f => by simp) (fun gs => by simp [h0]) z
  · exact k _ _ (fun n f => by simp) (fun gs => by simp) z
  · exact k _ _ (fun n f => by simp) (fun gs => by simp) z
/-- the whole component -/
def XSA (G : g_) (h : hp_) (x nw : Nat) (snv : Value) (hq es a pd : Nat) (X : List Nat) (S : st_) : Prop :=
  hget h x = some (eO 0 [.ref nw, snv, .ref hq, .ref pd]) ∧ SHX G h es nw S.1 ∧
  ((S.2.1 = none ∧ snv = .null) ∨ ∃ sn σ, snv = .ref sn ∧ S.2.1 = some σ ∧ SHX G h es sn σ) ∧
  DQ h hq es a X ∧ X.length = S.2.2.1.length ∧ S.2.2.1.length ≤ 4 ∧ (∀ (i q : Nat) (σ : sg_), X[i]? = some q → S.2.2.1[i]? = some σ → SHX G h es q σ) ∧ SB h pd S.2.2.2
def XS (G : g_) (h : hp_) (x : Nat) (S : st_) : Prop := ∃ nw snv hq es a pd X, XSA G h x nw snv hq es a pd X S
variable {x nw hq a pd : Nat} {snv : Value} {X : List Nat} {S : st_}
theorem DQ.le {h' : hp_} {q : Nat} (D : DQ h q es a X) (l : Le h h') : DQ h' q es a X := by
  obtain ⟨g, d1, d2, d3⟩ := D
  exact ⟨g, l _ _ d1, l _ _ d2, d3⟩
theorem XSA.le {h' : hp_} (A : XSA G h x nw snv hq es a pd X S) (l : Le h h') : XSA G h' x nw snv hq es a pd X S := by
  obtain ⟨a1, a2, a3, a4, a5, a6, a7, a8⟩ := A
  refine ⟨l _ _ a1, a2.le l, ?_, a4.le l, a5, a6, fun i q σ h1 h2 => (a7 i q σ h1 h2).le l, a8.le l⟩
  rcases a3 with a3 | ⟨sn, σ, b1, b2, b3⟩
  · exact Or.inl a3
  · exact Or.inr ⟨sn, σ, b1, b2, b3.le l⟩
theorem XS.kx {h' : hp_} (A : XS G h x S) (k : KX h h') : XS G h' x S := by
  obtain ⟨nw, snv, hq, es, a, pd, X, a1, a2, a3, ⟨g, d1, d2, d3⟩, a5, a6, a7, ⟨s1, s2, va, cd, ml, n, f, s3, s4, s5⟩⟩ := A
  refine ⟨nw, snv, hq, es, a, pd, X, k _ _ (fun n f => by simp) (fun fs => by simp) a1, a2.kx k, ?_, ⟨g, k _ _ (fun n f => by simp) (fun fs => by simp) d1, k _ _ (fun n f => by simp) (fun fs => by simp) d2, d3⟩, a5, a6, fun i q σ h1 h2 => (a7 i q σ h1 h2).kx k, s1, s2, va, cd, ml, n, f, k _ _ (fun n f => by simp) (fun fs => by simp) s3, k _ _ (fun n f => by simp) (fun fs => by simp) s4, s5⟩
  rcases a3 with a3 | ⟨sn, σ, b1, b2, b3⟩
  · exact Or.inl a3
  · exact Or.inr ⟨sn, σ, b1, b2, b3.kx k⟩
theorem SHX.mk {y : Nat} {h' : hp_} (A : SHL G (hsz h) h' y σ N) (W : WS σ) (he : es < hsz h) : SHX G h' es y σ := ⟨W, hsz h, N, A, Or.inl he⟩
def pushH (H : List sg_) (σ : sg_) : List sg_ := if H.length = 4 then (H ++ [σ]).tail else H ++ [σ]
def beS (S : st_) (σ : sg_) : st_ := (σ, S.2.1, pushH S.2.2.1 S.1, S.2.2.2)
theorem X0_become_ {y : Nat} {t : Int32} {σ' : sg_} (hw : hwf h) (A : XSA G h x nw snv hq es a pd X S) (Y : SHX G h es y σ') :
    Do_ G M_X0_become [.ref x, .ref y, .int t] h (RI fun z h' => z = t ∧ XS G h' x (beS S σ') ∧ KM h h' ∧ hm h' = hm h) := by
  obtain ⟨a1, a2, a3, a4, a5, a6, a7, a8⟩ := A
  have a40 := a4
  obtain ⟨g0, d1, d2, d3⟩ := a4
  have obn : obk h nw := by
    obtain ⟨w, lo, N, ⟨d, el, ar, n, tl, ta, nt, F, K, b, -⟩, -⟩ := a2
    exact Or.inl ⟨1, _, b.1, by decide⟩
  have hnx : x ≠ hq := hgn a1 d1 (by simp)
  have hne : x ≠ es := hgn a1 d2 (by simp)
  -- after the history is as it is to be
  have fin : ∀ (h2 : hp_) (a' : Nat) (X' : List Nat), hwf h2 → M2 hq es h h2 → DQ h2 hq es a' X' → X'.length = (pushH S.2.2.1 S.1).length → (pushH S.2.2.1 S.1).length ≤ 4 → (∀ (i q : Nat) (σ : sg_), X'[i]? = some q → (pushH S.2.2.1 S.1)[i]? = some σ → SHX G h es q σ) →
      ∃ h7, pf fd_X0_now h2 x (.ref y) = some h7 ∧ RI (fun z h' => z = t ∧ XS G h' x (beS S σ') ∧ KM h h' ∧ hm h' = hm h) (.inl (some (.int t))) h7 := by
    intro h2 a' X' w2 m2 D2 e1 e2 e3
    have x2 : hget h2 x = some (eO 0 [.ref nw, snv, .ref hq, .ref pd]) := by rw [m2.1 _ hnx hne]; exact a1
    have kv : KV es h (hset h2 x (eO 0 [.ref y, snv, .ref hq, .ref pd])) := by
      intro q e c1 c2 c3 z
      have hqx : q ≠ x := fun e9 => by rw [e9, a1] at z; exact c1 _ (Option.some.inj z).symm
      have hqq : q ≠ hq := fun e9 => by rw [e9, d1] at z; exact c2 _ (Option.some.inj z).symm
      rw [hset_ne _ _ hqx, m2.1 _ hqq c3]
      exact z
    refine ⟨_, pfx x2 rfl rfl rfl, _, rfl, rfl, ⟨y, snv, hq, es, a', pd, X', hset_at _ _ _, Y.kv d2 kv, ?_, D2.kept (hset_ne _ _ (Ne.symm hnx)) (hset_ne _ _ (Ne.symm hne)), e1, e2, fun i q σ h1 h3 => (e3 i q σ h1 h3).kv d2 kv, ?_⟩, ?_, ?_⟩
    · rcases a3 with a3 | ⟨sn, σ, b1, b2, b3⟩
      · exact Or.inl a3
      · exact Or.inr ⟨sn, σ, b1, b2, b3.kv d2 kv⟩
    · obtain ⟨s1, s2, va, cd, ml, n, f, s3, s4, s5⟩ := a8
      exact ⟨s1, s2, va, cd, ml, n, f, kv _ _ (fun gs => by simp) (fun gs => by simp) (hgn s3 d2 (by simp)) s3, kv _ _ (fun gs => by simp) (fun gs => by simp) (hgn s4 d2 (by simp)) s4, s5⟩
    · intro q e c z
      refine kv q e ?_ ?_ ?_ z
      · rcases c with ⟨n, f, rfl⟩ | ⟨fs, rfl⟩ | ⟨f, rfl⟩ <;> intro gs <;> simp
      · rcases c with ⟨n, f, rfl⟩ | ⟨fs, rfl⟩ | ⟨f, rfl⟩ <;> intro gs <;> simp
      · rcases c with ⟨n, f, rfl⟩ | ⟨fs, rfl⟩ | ⟨f, rfl⟩ <;> exact hgn z d2 (by simp)
    · rw [hm_set]; exact m2.2
  have app : ∀ (i q : Nat) (σ : sg_), (X ++ [nw])[i]? = some q → (S.2.2.1 ++ [S.1])[i]? = some σ → SHX G h es q σ := by
    intro i q σ h1 h2
    rcases snoc_cases h1 with ⟨c1, c2⟩ | ⟨rfl, rfl⟩
    · rw [List.getElem?_append_left (by omega)] at h2
      exact a7 i q σ c2 h2
    · rw [a5, List.getElem?_append_right (Nat.le_refl _), Nat.sub_self] at h2
      have : S.1 = σ := Option.some.inj h2
      rw [← this]
      exact a2
  refine e_X0_become ⟨_, gfx a1 rfl rfl, _, gfx a1 rfl rfl, cax d1, (J3_addLast_ a40 (by omega) obn).rv ?_⟩
  rintro h3 w3 s3 ⟨D3, m3⟩
  have x3 : hget h3 x = some (eO 0 [.ref nw, snv, .ref hq, .ref pd]) := by rw [m3.1 _ hnx hne]; exact a1
  have D30 := D3
  obtain ⟨g1, q1, q2, q3⟩ := D3
  refine ⟨_, gfx x3 rfl rfl, cax q1, (J3_size_ D30).use ?_⟩
  rw [List.length_append, List.length_singleton]
  refine ⟨fun c => ?_, fun c => ⟨_, gfx x3 rfl rfl, cax q1, ?_⟩⟩
  · have hl : X.length + 1 ≤ 4 := (nI_le' (b := 4) (by omega) (by omega)).mp c
    have hp : pushH S.2.2.1 S.1 = S.2.2.1 ++ [S.1] := by unfold pushH; rw [if_neg (by omega)]
    refine fin h3 a (X ++ [nw]) w3 m3 D30 ?_ ?_ ?_
    · rw [hp, List.length_append, List.length_append, a5]; rfl
    · rw [hp, List.length_append, List.length_singleton]; omega
    · rw [hp]; exact app
  · have hl : S.2.2.1.length = 4 := by
      have : ¬ X.length + 1 ≤ 4 := fun e => c ((nI_le' (b := 4) (by omega) (by omega)).mpr e)
      omega
    have hp : pushH S.2.2.1 S.1 = (S.2.2.1 ++ [S.1]).tail := by unfold pushH; rw [if_pos hl]
    cases hX : X with
    | nil => rw [hX] at a5; simp at a5; omega
    | cons x0 X0 =>
      have hX2 : X ++ [nw] = x0 :: (X0 ++ [nw]) := by rw [hX]; rfl
      rw [hX2] at D30
      refine (J3_removeFirst_ D30).rn ?_
      rintro _ h4 w4 s4 ⟨rfl, D4, m4⟩
      refine fin h4 _ (X0 ++ [nw]) w4 ⟨fun q h1 h2 => by rw [m4.1 q h1 h2, m3.1 q h1 h2], by rw [m4.2, m3.2]⟩ D4 ?_ ?_ ?_
      · rw [hp, List.length_tail, List.length_append, List.length_append]
        rw [hX, List.length_cons] at a5
        simp only [List.length_singleton]; omega
      · rw [hp, List.length_tail, List.length_append, List.length_singleton]; omega
      · intro i q σ h1 h2
        rw [hp, List.getElem?_tail] at h2
        exact app (i + 1) q σ (by rw [hX2, List.getElem?_cons_succ]; exact h1) h2
end D25
