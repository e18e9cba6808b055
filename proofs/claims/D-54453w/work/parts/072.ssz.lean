/-! SPECS 22: a shelf is squeezed, whole -/
set_option maxRecDepth 100000
/-- what the directory's loop does not change -/
def ZI (G : g_) (h1 : hp_) (s d tl : Nat) (sq gb : Int32) (K Kj : List (Nat × tt_)) (mt : Int32) (ta nt : Nat) (ft : Nat → Option Nat) (KK : List (Nat × tt_)) (ol : Nat) (mo : Int32) (ao no : Nat) (fo : Nat → Option Nat) (it j : Nat) : Prop :=
  hget h1 s = some (eO 1 [.ref d, .ref tl, .int sq, .int gb]) ∧ AL G h1 tl (Kj.map Prod.fst) mt ta nt ft ∧ (∀ k ∈ Kj, txt h1 k.1 k.2.1 k.2.2.1 k.2.2.2) ∧ (∀ k ∈ K, txt h1 k.1 k.2.1 k.2.2.1 k.2.2.2) ∧ AL G h1 ol (KK.map Prod.fst) mo ao no fo ∧ IT h1 it ol mo j
/-- how far the rows have their new texts -/
def PW (F Fj : List (EN × tt_)) (KK Kj : List (Nat × tt_)) (j : Nat) : Prop := Fj.length = F.length ∧ ∀ (p : Nat) (x : EN × tt_), F[p]? = some x → ∃ x', Fj[p]? = some x' ∧ ea x'.1 = ea x.1 ∧ en x'.1 = en x.1 ∧ eg x'.1 = eg x.1 ∧
  ((x' = x ∧ ∀ (i : Nat) (k : Nat × tt_), i < j → KK[i]? = some k → k.2.1 ≠ x.2.1) ∨ (∃ (i : Nat) (k : Nat × tt_), i < j ∧ KK[i]? = some k ∧ k.2.1 = x.2.1 ∧ (et x'.1, x'.2) ∈ Kj ∧ x'.2 = (tsum ((KK.map Prod.snd).take i), x.2.2)))
theorem PW.zero (F : List (EN × tt_)) (KK Kj : List (Nat × tt_)) : PW F F KK Kj 0 := ⟨rfl, fun p x hx => ⟨x, hx, rfl, rfl, rfl, Or.inl ⟨rfl, fun i k hi => absurd hi (by omega)⟩⟩⟩
theorem PW.step {F Fj : List (EN × tt_)} {KK Kj : List (Nat × tt_)} {j mv : Nat} {k : Nat × tt_} (P : PW F Fj KK Kj j) (hk : KK[j]? = some k) (inj : ∀ x ∈ F, et x.1 = k.1 ↔ x.2.1 = k.2.1) (eq : ∀ x ∈ F, x.2.1 = k.2.1 → x.2 = k.2) (new : ∀ y ∈ Kj, y.1 ≠ k.1) :
    PW F (Fj.map (mvT k.1 mv (tsum ((KK.map Prod.snd).take j), k.2.2))) KK (Kj ++ [(mv, (tsum ((KK.map Prod.snd).take j), k.2.2))]) (j + 1) := by
  refine ⟨by rw [List.length_map]; exact P.1, fun p x hx => ?_⟩
  obtain ⟨x', h1, h2, h3, h4, h5⟩ := P.2 p x hx
  have hxm := List.mem_of_getElem? hx
  obtain ⟨m1, m2, m3⟩ := mvT_e k.1 mv (tsum ((KK.map Prod.snd).take j), k.2.2) x'
  refine ⟨_, by rw [List.getElem?_map, h1]; rfl, m1.trans h2, m2.trans h3, m3.trans h4, ?_⟩
  rcases h5 with ⟨rfl, h5⟩ | ⟨i, k', i1, i2, i3, i4, i5⟩
  · by_cases he : x'.2.1 = k.2.1
    · right
      have h6 : et x'.1 = k.1 := (inj x' hxm).mpr he
      refine ⟨j, k, by omega, hk, he.symm, ?_, ?_⟩
      · unfold mvT
        rw [if_pos h6]
        exact List.mem_append_right _ (List.mem_singleton.mpr rfl)
      · unfold mvT
        rw [if_pos h6, eq x' hxm he]
    · left
      have h6 : ¬ et x'.1 = k.1 := fun e => he ((inj x' hxm).mp e)
      refine ⟨by unfold mvT; rw [if_neg h6], fun i k' hi hk' => ?_⟩
      by_cases hij : i = j
      · subst hij
        rw [hk] at hk'
        rw [← Option.some.inj hk']
        exact fun e => he e.symm
      · exact h5 i k' (by omega) hk'
  · right
    have h6 : ¬ et x'.1 = k.1 := new _ i4
    have h7 : mvT k.1 mv (tsum ((KK.map Prod.snd).take j), k.2.2) x' = x' := by unfold mvT; rw [if_neg h6]
    rw [h7]
    exact ⟨i, k', by omega, i2, i3, List.mem_append_left _ i4, i5⟩
theorem PW.end {F Fj : List (EN × tt_)} {KK Kj : List (Nat × tt_)} (P : PW F Fj KK Kj KK.length) (hall : ∀ x ∈ F, ∃ (i : Nat) (k : Nat × tt_), KK[i]? = some k ∧ k.2.1 = x.2.1) (hp : (KK.map Prod.snd).Pairwise (fun a b => a.1 < b.1)) :
    Fj.map rwo = (F.map rwo).map (sqzR (KK.map Prod.snd)) ∧ ∀ x ∈ Fj, (et x.1, x.2) ∈ Kj := by
  have each : ∀ (p : Nat) (x : EN × tt_), F[p]? = some x → ∃ x', Fj[p]? = some x' ∧ rwo x' = sqzR (KK.map Prod.snd) (rwo x) ∧ (et x'.1, x'.2) ∈ Kj := by
    intro p x hx
    obtain ⟨x', h1, h2, h3, h4, h5⟩ := P.2 p x hx
    obtain ⟨i0, k0, hk0, e0⟩ := hall x (List.mem_of_getElem? hx)
    rcases h5 with ⟨rfl, h5⟩ | ⟨i, k', i1, i2, i3, i4, i5⟩
    · exact absurd e0 (h5 i0 k0 (List.getElem?_eq_some_iff.mp hk0).1 hk0)
    · refine ⟨x', h1, ?_, i4⟩
      have hn := nst_at hp (j := i) (t := k'.2) (by rw [List.getElem?_map, i2]; rfl)
      rw [i3] at hn
      show (en x'.1, eg x'.1, x'.2) = (en x.1, eg x.1, (nst (KK.map Prod.snd) x.2.1, x.2.2))
      rw [h3, h4, i5, hn]
  constructor
  · apply List.ext_getElem?
    intro p
    rw [List.getElem?_map, List.getElem?_map, List.getElem?_map]
    cases hx : F[p]? with
    | none =>
      have := List.getElem?_eq_none_iff.mp hx
      rw [List.getElem?_eq_none (by rw [P.1]; exact this)]
      rfl
    | some x =>
      obtain ⟨x', h1, h2, h3⟩ := each p x hx
      rw [h1]
      exact congrArg some h2
  · intro x' hx'
    obtain ⟨p, hp'⟩ := List.getElem?_of_mem hx'
    have hl := (List.getElem?_eq_some_iff.mp hp').1
    rw [P.1] at hl
    obtain ⟨y, h1, h2, h3⟩ := each p _ (List.getElem?_eq_getElem hl)
    rw [hp'] at h1
    rw [Option.some.inj h1]
    exact h3
section D22
variable {G : g_} {lo : Nat} {h : hp_} {s d el ar n tl ta nt : Nat} {F : List (EN × tt_)} {bl : Nat} {K : List (Nat × tt_)} {sq gb : Int32} {σ : sg_} {N : Nat}
theorem ZI.kq {h1 h2 : hp_} {Kj KK : List (Nat × tt_)} {mt mo : Int32} {ft fo : Nat → Option Nat} {ol ao no it j : Nat} (Z : ZI G h1 s d tl sq gb K Kj mt ta nt ft KK ol mo ao no fo it j) (k : KQ h1 h2) : ZI G h2 s d tl sq gb K Kj mt ta nt ft KK ol mo ao no fo it j := by
  obtain ⟨z1, z2, z3, z4, z5, z6⟩ := Z
  have c : ∀ (c : Nat) (fs : List Value), c ≠ 4 → c ≠ 5 → c ≠ 6 → ∀ gs, (eO c fs : e_) ≠ eO 4 gs ∧ (eO c fs : e_) ≠ eO 5 gs ∧ (eO c fs : e_) ≠ eO 6 gs := by
    intro c fs h4 h5 h6 gs
    refine ⟨?_, ?_, ?_⟩ <;> simp [h4, h5, h6]
  have r : ∀ (m : Nat) (f : Nat → Option Nat), ∀ gs, (eR m f : e_) ≠ eO 4 gs ∧ (eR m f : e_) ≠ eO 5 gs ∧ (eR m f : e_) ≠ eO 6 gs := by
    intro m f gs
    refine ⟨?_, ?_, ?_⟩ <;> simp
  obtain ⟨lr, z6⟩ := z6
  exact ⟨k _ _ (c _ _ (by omega) (by omega) (by omega)) z1, ⟨k _ _ (c _ _ (by omega) (by omega) (by omega)) z2.1, k _ _ (r _ _) z2.2.1, z2.2.2⟩, fun y hy => k _ _ (c _ _ (by omega) (by omega) (by omega)) (z3 y hy), fun y hy => k _ _ (c _ _ (by omega) (by omega) (by omega)) (z4 y hy), ⟨k _ _ (c _ _ (by omega) (by omega) (by omega)) z5.1, k _ _ (r _ _) z5.2.1, z5.2.2⟩, lr, k _ _ (c _ _ (by omega) (by omega) (by omega)) z6⟩
theorem ZI.le {h1 h2 : hp_} {Kj KK : List (Nat × tt_)} {mt mo : Int32} {ft fo : Nat → Option Nat} {ol ao no it j : Nat} (Z : ZI G h1 s d tl sq gb K Kj mt ta nt ft KK ol mo ao no fo it j) (k : Le h1 h2) : ZI G h2 s d tl sq gb K Kj mt ta nt ft KK ol mo ao no fo it j := by
  obtain ⟨z1, z2, z3, z4, z5, lr, z6⟩ := Z
  exact ⟨k _ _ z1, z2.le k, fun y hy => (z3 y hy).le k, fun y hy => (z4 y hy).le k, z5.le k, lr, k _ _ z6⟩
theorem ZI.endS {h1 : hp_} {Kj KK : List (Nat × tt_)} {mt mo : Int32} {ft fo : Nat → Option Nat} {ol ao no it j : Nat} {T : List tt_} (Z : ZI G h1 s d tl sq gb K Kj mt ta nt ft KK ol mo ao no fo it j) (hT : Kj.map Prod.snd = relay 0 T) (ok : ∀ t ∈ T, tok t) (hs : tsum T ≤ 100) : QE G M_X1_end [.ref s] h1 (nI (tsum T)) := by
  have := X1_endK_ (K := Kj) Z.1 Z.2.1 Z.2.2.1 (by rw [hT]; exact chn_relay 0 ok) (by rw [hT, tsum_relay]; exact hs)
  rw [hT, tsum_relay] at this
  exact this
theorem sq80_ {ol ao no it C : Nat} {mo : Int32} {fo : Nat → Option Nat} (hw : hwf h) (A : SHA G lo h s d el ar n tl ta nt F bl K sq gb) (hs : srt (F.map rwo)) (hc : chn 0 (K.map Prod.snd)) (ht : tsum (K.map Prod.snd) ≤ 100) (hlo : lo ≤ hsz h) (hol : hsz h ≤ ol) (hit : hsz h ≤ it) :
    ∀ (m j : Nat) (h1 : hp_) (Fj : List (EN × tt_)) (Kj : List (Nat × tt_)) (mt : Int32) (ta1 nt1 : Nat) (ft : Nat → Option Nat), (K.filter (fun k => pts (F.map rwo) k.2.1)).length - j = m → j ≤ (K.filter (fun k => pts (F.map rwo) k.2.1)).length → hwf h1 → hsz h ≤ hsz h1 →
      ZI G h1 s d tl sq gb K Kj mt ta1 nt1 ft (K.filter (fun k => pts (F.map rwo) k.2.1)) ol mo ao no fo it j → DR G h1 d el ar n (Fj.map Prod.fst) bl → PW F Fj (K.filter (fun k => pts (F.map rwo) k.2.1)) Kj j → Kj.map Prod.snd = relay 0 (((K.filter (fun k => pts (F.map rwo) k.2.1)).map Prod.snd).take j) → (∀ k ∈ Kj, hsz h ≤ k.1) →
      (ar ≠ ta1 ∨ n = 0 ∨ nt1 = 0) → (ao ≠ ta1 ∨ no = 0 ∨ nt1 = 0) → (lo ≤ ta1 ∨ nt1 = 0) → Fr lo h h1 → hm h1 + 4 * nt ≤ hm h + 4 * nt1 + C + 9 * j →
      Go_ G M_X1_squeeze 80 [some (.ref s), some (.int (nI (tsum (K.map Prod.snd)))), none, some (.ref it), none, none, none, none] [] h1 (RI fun y h' => y = (sqzS (F.map rwo, K.map Prod.snd, bl, sq, gb)).1 ∧ (∃ N', SHL G lo h' s (sqzS (F.map rwo, K.map Prod.snd, bl, sq, gb)).2 N' ∧ hm h' + 4 * (n + nt) ≤ hm h + 4 * N' + C + 900) ∧ Fr lo h h') := by
  have hlive : (K.filter (fun k => pts (F.map rwo) k.2.1)).map Prod.snd = livT (F.map rwo) (K.map Prod.snd) := by
    unfold livT
    rw [List.filter_map]
    rfl
  have hKK : ∀ k ∈ K.filter (fun k => pts (F.map rwo) k.2.1), k ∈ K := fun k hk => (List.mem_filter.mp hk).1
  have hLpw : ((K.filter (fun k => pts (F.map rwo) k.2.1)).map Prod.snd).Pairwise (fun a b => a.1 < b.1) := by rw [hlive]; exact livT_pw hc
  have hLok : ∀ t ∈ (K.filter (fun k => pts (F.map rwo) k.2.1)).map Prod.snd, tok t := by
    intro t htm
    rw [hlive] at htm
    exact chn_tok hc t (List.mem_filter.mp htm).1
  have hLs : tsum ((K.filter (fun k => pts (F.map rwo) k.2.1)).map Prod.snd) ≤ tsum (K.map Prod.snd) := by rw [hlive]; exact tsum_filter_le _ _
  have hKl : K.length ≤ 100 := by have := chn_len hc; rw [List.length_map] at this; omega
  have hKKl : (K.filter (fun k => pts (F.map rwo) k.2.1)).length ≤ 100 := Nat.le_trans (List.length_filter_le _ _) hKl
  have a4 := A.2.2.2.1
  have a5 := A.2.2.2.2.1
  have htl : tl < hsz h := by
    obtain ⟨mt, ft, a3⟩ := A.2.2.1
    exact hlt hw a3.1
  have hll : lo ≤ tl := A.2.2.2.2.2.2.2.2.2.1
  have hlos : lo ≤ s := A.2.2.2.2.2.1
  have helt : el ≠ tl := A.2.2.2.2.2.2.2.2.2.2.2.1
  have hloF : ∀ x ∈ F, lo ≤ ea x.1 := A.2.2.2.2.2.2.2.2.2.2.2.2.2
  have hNF : ∀ (i j : Nat) (x y : EN × tt_), F[i]? = some x → F[j]? = some y → en x.1 = en y.1 → i = j := by
    intro i j x y hi hj e
    exact srt_inj hs (a := rwo x) (b := rwo y) (by rw [List.getElem?_map, hi]; rfl) (by rw [List.getElem?_map, hj]; rfl) e
  generalize hKKe : K.filter (fun k => pts (F.map rwo) k.2.1) = KK at *
  have Kmem : ∀ x ∈ F, ∃ (i : Nat) (k : Nat × tt_), KK[i]? = some k ∧ k.2.1 = x.2.1 := by
    intro x hx
    have h1 : (et x.1, x.2) ∈ KK := by
      rw [← hKKe]
      refine List.mem_filter.mpr ⟨a5 x hx, ?_⟩
      unfold pts
      rw [List.any_map, List.any_eq_true]
      exact ⟨x, hx, by simp [rwo]⟩
    obtain ⟨i, hi⟩ := List.getElem?_of_mem h1
    exact ⟨i, _, hi, rfl⟩
  intro m
  induction m with
  | zero =>
    intro j h1 Fj Kj mt ta1 nt1 ft hm_ hj w1 s1 Z D P hT hnew c1 c2 c3 fr g
    have hjl : j = KK.length := by omega
    subst hjl
    have hT2 : Kj.map Prod.snd = relay 0 (KK.map Prod.snd) := by rw [hT, List.take_of_length_le (by rw [List.length_map]; exact Nat.le_refl _)]
    obtain ⟨q1, q2⟩ := P.end Kmem hLpw
    have ZZ := Z
    obtain ⟨z1, z2, z3, z4, z5, z6⟩ := Z
    obtain ⟨lr, z7⟩ := z6
    have Dl := D.len
    refine w_X1_squeeze_80 ⟨cax z7, (J13_hasNext_ z5 ⟨lr, z7⟩ (by rw [List.length_map]; exact Nat.le_refl _)).use ⟨fun _ => ⟨_, gfx z1 rfl rfl, _, pfx z1 rfl rfl rfl, _, gfx (hset_at _ _ _) rfl rfl, cax (hset_at _ _ _), ?_⟩, fun c => ?_⟩⟩
    · have kp : ∀ (e' : e_) q e, q ≠ s → hget h1 q = some e → hget (hset h1 s e') q = some e := fun e' q e hq z => by rw [hset_ne _ _ hq]; exact z
      have ZA : ∀ sq' gb', ZI G (hset h1 s (eO 1 [.ref d, .ref tl, .int sq', .int gb'])) s d tl sq' gb' K Kj mt ta1 nt1 ft KK ol mo ao no fo it KK.length := by
        intro sq' gb'
        refine ⟨hset_at _ _ _, ⟨kp _ _ _ (hgn z2.1 z1 (by simp)) z2.1, kp _ _ _ (hgn z2.2.1 z1 (by simp)) z2.2.1, z2.2.2⟩, fun y hy => ?_, fun y hy => ?_, ⟨kp _ _ _ (hgn z5.1 z1 (by simp)) z5.1, kp _ _ _ (hgn z5.2.1 z1 (by simp)) z5.2.1, z5.2.2⟩, lr, kp _ _ _ (hgn z7 z1 (by simp)) z7⟩
        · have := z3 y hy
          unfold txt at this
          exact kp _ _ _ (hgn this z1 (by simp)) this
        · have := z4 y hy
          unfold txt at this
          exact kp _ _ _ (hgn this z1 (by simp)) this
      have DA : ∀ sq' gb', DR G (hset h1 s (eO 1 [.ref d, .ref tl, .int sq', .int gb'])) d el ar n (Fj.map Prod.fst) bl := by
        intro sq' gb'
        obtain ⟨d1, ⟨mc, f, d2⟩, d3, d4⟩ := D
        exact ⟨kp _ _ _ (hgn d1 z1 (by simp)) d1, ⟨mc, f, kp _ _ _ (hgn d2.1 z1 (by simp)) d2.1, kp _ _ _ (hgn d2.2.1 z1 (by simp)) d2.2.1, d2.2.2⟩, fun e he => ⟨kp _ _ _ (Ne.symm ((d3 e he).neO z1 (by omega))) (d3 e he).1, (d3 e he).2⟩, d4⟩
      have Z2 := ZA (sq + 1) gb
      refine (Z2.endS hT2 hLok (by omega)).use ⟨_, pfx (hset_at _ _ _) rfl rfl rfl, ?_⟩
      show cls_at (hset (hset h1 s (eO 1 [.ref d, .ref tl, .int (sq + 1), .int gb])) s (eO 1 [.ref d, .ref tl, .int (sq + 1), .int (gb + (nI (tsum (K.map Prod.snd)) - nI (tsum (KK.map Prod.snd))))])) s = some 1 ∧ Do_ G M_X1_end [.ref s] (hset (hset h1 s (eO 1 [.ref d, .ref tl, .int (sq + 1), .int gb])) s (eO 1 [.ref d, .ref tl, .int (sq + 1), .int (gb + (nI (tsum (K.map Prod.snd)) - nI (tsum (KK.map Prod.snd))))])) _
      rw [hset_hset]
      have Z3 := ZA (sq + 1) (gb + (nI (tsum (K.map Prod.snd)) - nI (tsum (KK.map Prod.snd))))
      have D3 := DA (sq + 1) (gb + (nI (tsum (K.map Prod.snd)) - nI (tsum (KK.map Prod.snd))))
      refine ⟨cax Z3.1, (Z3.endS hT2 hLok (by omega)).use ⟨_, rfl, ?_, ?_, ?_⟩⟩
      · unfold sqzS
        rw [← hlive]
      · refine ⟨n + nt1, ⟨d, el, ar, n, tl, ta1, nt1, Fj, Kj, ⟨?_, D3, ⟨mt, ft, Z3.2.1⟩, Z3.2.2.1, q2, hlos, A.2.2.2.2.2.2.1, A.2.2.2.2.2.2.2.1, A.2.2.2.2.2.2.2.2.1, hll, c3, helt, c1, ?_⟩, ?_, ?_, rfl⟩, ?_⟩
        · have := Z3.1
          unfold sqzS
          rw [← hlive]
          exact this
        · intro x hx
          obtain ⟨p, hp⟩ := List.getElem?_of_mem hx
          have hl := (List.getElem?_eq_some_iff.mp hp).1
          rw [P.1] at hl
          obtain ⟨x', y1, y2, -⟩ := P.2 p _ (List.getElem?_eq_getElem hl)
          rw [hp] at y1
          rw [Option.some.inj y1, y2]
          exact hloF _ (List.getElem_mem hl)
        · unfold sqzS
          rw [← hlive]
          exact q1.symm
        · unfold sqzS
          rw [← hlive]
          exact hT2.symm
        · rw [hm_set]; omega
      · exact fr.trans (Fr.set hlos)
    · rw [List.length_map, decide_eq_false (by omega)] at c
      exact absurd rfl c
  | succ m ih =>
    intro j h1 Fj Kj mt ta1 nt1 ft hm_ hj w1 s1 Z D P hT hnew c1 c2 c3 fr g
    have hk : KK[j]? = some KK[j] := List.getElem?_eq_getElem (by omega)
    have hkm := List.mem_of_getElem? hk
    have hkK := hKK _ hkm
    have hjs : tsum ((KK.map Prod.snd).take j) ≤ 100 := by
      have h9 := tsum_take_le (T := KK.map Prod.snd) (i := j) (j := (KK.map Prod.snd).length) (by rw [List.length_map]; omega)
      rw [List.take_length] at h9
      omega
    have Dl := D.len
    rw [List.length_map] at Dl
    obtain ⟨z1, z2, z3, z4, z5, z6⟩ := Z
    have z60 := z6
    obtain ⟨lr, z7⟩ := z6
    refine w_X1_squeeze_80 ⟨cax z7, (J13_hasNext_ z5 z60 (by rw [List.length_map]; omega)).use ⟨fun c => ?_, fun _ => ⟨cax z7, (J13_next_ (x := KK[j].1) z5 z60 (by rw [List.getElem?_map, hk]; rfl)).rn ?_⟩⟩⟩
    · rw [List.length_map, decide_eq_true (by omega)] at c
      exact absurd c (by decide)
    · rintro _ h2 w2 s2 ⟨rfl, e2⟩
      have kp : ∀ q e, q ≠ it → hget h1 q = some e → hget h2 q = some e := fun q e hq z => by rw [e2, hset_ne _ _ hq]; exact z
      have m2 : hm h2 = hm h1 := by rw [e2, hm_set]
      have Z2 : ZI G h2 s d tl sq gb K Kj mt ta1 nt1 ft KK ol mo ao no fo it (j + 1) := by
        refine ⟨kp _ _ (hgn z1 z7 (by simp)) z1, ⟨kp _ _ (hgn z2.1 z7 (by simp)) z2.1, kp _ _ (hgn z2.2.1 z7 (by simp)) z2.2.1, z2.2.2⟩, fun y hy => ?_, fun y hy => ?_, ⟨kp _ _ (hgn z5.1 z7 (by simp)) z5.1, kp _ _ (hgn z5.2.1 z7 (by simp)) z5.2.1, z5.2.2⟩, _, by rw [e2]; exact hset_at _ _ _⟩
        · have := z3 y hy
          unfold txt at this
          exact kp _ _ (hgn this z7 (by simp)) this
        · have := z4 y hy
          unfold txt at this
          exact kp _ _ (hgn this z7 (by simp)) this
      have D2 : DR G h2 d el ar n (Fj.map Prod.fst) bl := by
        obtain ⟨d1, ⟨mc, f, d2⟩, d3, d4⟩ := D
        exact ⟨kp _ _ (hgn d1 z7 (by simp)) d1, ⟨mc, f, kp _ _ (hgn d2.1 z7 (by simp)) d2.1, kp _ _ (hgn d2.2.1 z7 (by simp)) d2.2.1, d2.2.2⟩, fun e he => ⟨kp _ _ (Ne.symm ((d3 e he).neO z7 (by omega))) (d3 e he).1, (d3 e he).2⟩, d4⟩
      have f2 : Fr lo h1 h2 := fun q e hq z => kp _ _ (by omega) z
      have kt : txt h2 _ _ _ _ := Z2.2.2.2.1 _ hkK
      refine ⟨7, cax kt, by simp, cax Z2.1, (Z2.endS hT (fun t htm => hLok t (List.mem_of_mem_take htm)) hjs).use ⟨cax kt, (X7_at_ w2 kt).rn ?_⟩⟩
      rintro _ h3 w3 s3 ⟨rfl, e3⟩
      have l3 : Le h2 h3 := by rw [e3]; exact Le.new w2 _ _
      have t3 : txt h3 (hsz h2) (tsum ((KK.map Prod.snd).take j)) KK[j].2.2.1 KK[j].2.2.2 := by
        show hget _ _ = _
        rw [e3]; exact hnew_at _ _ _
      have m3 : hm h3 = hm h2 + 4 := by rw [e3, hm_new]
      have z3s : hsz h3 = hsz h2 + 1 := by rw [e3, hsz_new]
      have Z3 := Z2.le l3
      have D3 := D2.le l3
      obtain ⟨y1, y2, y3, y4, y5, y6⟩ := Z3
      have ob : ∀ x ∈ Kj.map Prod.fst, obk h3 x := by
        intro x hx
        obtain ⟨y, hy, rfl⟩ := List.mem_map.mp hx
        exact Or.inl ⟨7, _, y3 y hy, by decide⟩
      have hKjl : Kj.length ≤ 100 := by
        have := congrArg List.length hT
        rw [List.length_map, relay_len, List.length_take, List.length_map] at this
        omega
      refine ⟨_, gfx y1 rfl rfl, cax y2.1, (J2_add_ w3 y2 (by rw [List.length_map]; exact hKjl) ob (Or.inl ⟨7, _, t3, by decide⟩)).ri ?_⟩
      rintro _ h4 w4 s4 ⟨-, ta', nt', ft', A4, W⟩
      have k4 : KL tl ta1 nt1 h3 h4 := W.1
      rw [show Kj.map Prod.fst ++ [hsz h2] = (Kj ++ [(hsz h2, (tsum ((KK.map Prod.snd).take j), KK[j].2.2))]).map Prod.fst from by rw [List.map_append]; rfl] at A4
      have kx : ∀ q c fs, c ≠ 11 → hget h3 q = some (eO c fs) → hget h4 q = some (eO c fs) := fun q c fs hc z => k4 _ _ (hgn z y2.1 (by simp [hc])) (Or.inl (hgn z y2.2.1 (by simp))) z
      have Z4 : ZI G h4 s d tl sq gb K (Kj ++ [(hsz h2, (tsum ((KK.map Prod.snd).take j), KK[j].2.2))]) (mt + 1) ta' nt' ft' KK ol mo ao no fo it (j + 1) := by
        obtain ⟨lr2, y6⟩ := y6
        refine ⟨kx _ _ _ (by omega) y1, A4, fun y hy => ?_, fun y hy => kx _ _ _ (by omega) (y4 y hy), ⟨k4 _ _ (by omega) (Or.inl (hgn y5.1 y2.2.1 (by simp))) y5.1, k4 _ _ (hgn y5.2.1 y2.1 (by simp)) (sepR c2 y5.2.1 y2.2.1) y5.2.1, y5.2.2⟩, lr2, kx _ _ _ (by omega) y6⟩
        rcases List.mem_append.mp hy with hy | hy
        · exact kx _ _ _ (by omega) (y3 y hy)
        · rw [List.mem_singleton.mp hy]
          exact kx _ _ _ (by omega) t3
      have D4 : DR G h4 d el ar n (Fj.map Prod.fst) bl := by
        obtain ⟨d1, ⟨mc, f, d2⟩, d3, d4⟩ := D3
        refine ⟨kx _ _ _ (by omega) d1, ⟨mc, f, k4 _ _ helt (Or.inl (hgn d2.1 y2.2.1 (by simp))) d2.1, k4 _ _ (hgn d2.2.1 y2.1 (by simp)) (sepR c1 d2.2.1 y2.2.1) d2.2.1, d2.2.2⟩, fun e he => (d3 e he).kl y2 k4, d4⟩
      have f4 : Fr lo h3 h4 := k4.fr hll c3
      have P4 : PW F (Fj.map (mvT KK[j].1 (hsz h2) (tsum ((KK.map Prod.snd).take j), KK[j].2.2))) KK (Kj ++ [(hsz h2, (tsum ((KK.map Prod.snd).take j), KK[j].2.2))]) (j + 1) := by
        refine P.step hk (fun x hx => ?_) (fun x hx e => ?_) (fun y hy e => ?_)
        · exact K_inj a4 hc ht (a := (et x.1, x.2)) (b := KK[j]) (a5 x hx) hkK
        · obtain ⟨i1, hi1⟩ := List.getElem?_of_mem (a5 x hx)
          obtain ⟨i2, hi2⟩ := List.getElem?_of_mem hkK
          have := chn_inj hc (kst hi1) (kst hi2) e
          subst this
          rw [hi1] at hi2
          have := Option.some.inj hi2
          rw [← this]
        · have h8 := hnew y hy
          have h9 := a4 _ hkK
          have := hlt hw h9
          omega
      have hT4 : (Kj ++ [(hsz h2, (tsum ((KK.map Prod.snd).take j), KK[j].2.2))]).map Prod.snd = relay 0 ((KK.map Prod.snd).take (j + 1)) := by
        rw [List.map_append, hT, List.take_add_one, List.getElem?_map, hk, relay_app, Nat.zero_add]
        rfl
      refine ⟨_, gfx Z4.1 rfl rfl, cax D4.1, (X2_iterator_ w4 D4).rn ?_⟩
      rintro _ h5 w5 s5 ⟨rfl, I5, l5, m5⟩
      rw [List.length_map] at I5
      have Z5 := Z4.le l5
      have D5 := D4.le l5
      have hFjN : ∀ (i j : Nat) (x y : EN × tt_), Fj[i]? = some x → Fj[j]? = some y → en x.1 = en y.1 → i = j := by
        intro i i' x y hi hi' e
        have hl1 := (List.getElem?_eq_some_iff.mp hi).1
        have hl2 := (List.getElem?_eq_some_iff.mp hi').1
        rw [P.1] at hl1 hl2
        obtain ⟨x', u1, -, u3, -⟩ := P.2 i _ (List.getElem?_eq_getElem hl1)
        obtain ⟨y', v1, -, v3, -⟩ := P.2 i' _ (List.getElem?_eq_getElem hl2)
        rw [hi] at u1
        rw [hi'] at v1
        refine hNF i i' _ _ (List.getElem?_eq_getElem hl1) (List.getElem?_eq_getElem hl2) ?_
        rw [← u3, ← v3, ← Option.some.inj u1, ← Option.some.inj v1]
        exact e
      have hFjlo : ∀ x ∈ Fj, lo ≤ ea x.1 := by
        intro x hx
        obtain ⟨p, hp⟩ := List.getElem?_of_mem hx
        have hl := (List.getElem?_eq_some_iff.mp hp).1
        rw [P.1] at hl
        obtain ⟨x', y1, y2, -⟩ := P.2 p _ (List.getElem?_eq_getElem hl)
        rw [hp] at y1
        rw [Option.some.inj y1, y2]
        exact hloF _ (List.getElem_mem hl)
      refine sq132_ (F := Fj) (lo := lo) (h0 := h5) (t' := (tsum ((KK.map Prod.snd).take j), KK[j].2.2)) hFjN hFjlo (by omega) ?_ Fj.length 0 h5 rfl (Nat.zero_le _) w5 (Nat.le_refl _) (by simpa using D5) I5 (fun _ _ _ z => z) Fr.rfl rfl
      intro h6 w6 s6 D6 k6 f6 g6
      refine ih (j + 1) h6 _ _ (mt + 1) ta' nt' ft' (by omega) (by omega) w6 (by omega) (Z5.kq k6) D6 P4 hT4 ?_ ?_ ?_ ?_ ?_ ?_
      · intro k hk'
        rcases List.mem_append.mp hk' with hk' | hk'
        · exact hnew k hk'
        · rw [List.mem_singleton.mp hk']
          show hsz h ≤ hsz h2
          omega
      · rcases W.2.1 with ⟨u1, u2, u3⟩ | u
        · rw [u1, u2]; exact c1
        · left
          obtain ⟨mc, f, d2⟩ := D3.2.1
          have := hlt w3 d2.2.1
          omega
      · rcases W.2.1 with ⟨u1, u2, u3⟩ | u
        · rw [u1, u2]; exact c2
        · left
          have := hlt w3 y5.2.1
          omega
      · rcases W.2.1 with ⟨u1, u2, u3⟩ | u
        · rw [u1]; exact Or.inl (c3.resolve_right u3)
        · left; omega
      · exact ((((fr.trans f2).trans (l3.fr lo)).trans f4).trans (l5.fr lo)).trans f6
      · have := W.2.2
        omega
end D22
