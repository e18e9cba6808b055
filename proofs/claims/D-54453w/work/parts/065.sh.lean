/-! SPECS 15: a shelf, read -/
set_option maxRecDepth 100000
/-- an entry with its text, as a row -/
def rwo (x : EN × tt_) : rw_ := (en x.1, eg x.1, x.2)
/-- a shelf in the heap: s its address, all that it may write at lo or later -/
def SHA (G : g_) (lo : Nat) (h : hp_) (s d el ar n tl ta nt : Nat) (F : List (EN × tt_)) (bl : Nat) (K : List (Nat × tt_)) (sq gb : Int32) : Prop :=
  hget h s = some (eO 1 [.ref d, .ref tl, .int sq, .int gb]) ∧ DR G h d el ar n (F.map Prod.fst) bl ∧ (∃ mt ft, AL G h tl (K.map Prod.fst) mt ta nt ft) ∧
  (∀ k ∈ K, txt h k.1 k.2.1 k.2.2.1 k.2.2.2) ∧ (∀ x ∈ F, (et x.1, x.2) ∈ K) ∧ lo ≤ s ∧ lo ≤ d ∧ lo ≤ el ∧ (lo ≤ ar ∨ n = 0) ∧ lo ≤ tl ∧ (lo ≤ ta ∨ nt = 0) ∧ el ≠ tl ∧ (ar ≠ ta ∨ n = 0 ∨ nt = 0) ∧ (∀ x ∈ F, lo ≤ ea x.1)
def SHL (G : g_) (lo : Nat) (h : hp_) (s : Nat) (σ : sg_) (N : Nat) : Prop :=
  ∃ d el ar n tl ta nt F K, SHA G lo h s d el ar n tl ta nt F σ.2.2.1 K σ.2.2.2.1 σ.2.2.2.2 ∧ σ.1 = F.map rwo ∧ σ.2.1 = K.map Prod.snd ∧ N = n + nt
section D15
variable {G : g_} {lo : Nat} {h : hp_} {s d el ar n tl ta nt : Nat} {F : List (EN × tt_)} {bl : Nat} {K : List (Nat × tt_)} {sq gb : Int32} {σ : sg_} {N : Nat}
theorem SHA.le {h' : hp_} (A : SHA G lo h s d el ar n tl ta nt F bl K sq gb) (l : Le h h') : SHA G lo h' s d el ar n tl ta nt F bl K sq gb := by
  obtain ⟨a1, a2, ⟨mt, ft, a3⟩, a4, a5⟩ := A
  exact ⟨l _ _ a1, a2.le l, ⟨mt, ft, a3.le l⟩, fun k hk => (a4 k hk).le l, a5⟩
theorem SHA.weak {lo' : Nat} (A : SHA G lo h s d el ar n tl ta nt F bl K sq gb) (l : lo' ≤ lo) : SHA G lo' h s d el ar n tl ta nt F bl K sq gb := by
  obtain ⟨a1, a2, a3, a4, a5, b1, b2, b3, b4, b5, b6, b7, b8, b9⟩ := A
  exact ⟨a1, a2, a3, a4, a5, by omega, by omega, by omega, by omega, by omega, by omega, b7, b8, fun x hx => Nat.le_trans l (b9 x hx)⟩
theorem SHL.le {h' : hp_} (A : SHL G lo h s σ N) (l : Le h h') : SHL G lo h' s σ N := by
  obtain ⟨d, el, ar, n, tl, ta, nt, F, K, a, b⟩ := A
  exact ⟨d, el, ar, n, tl, ta, nt, F, K, a.le l, b⟩
theorem SHL.weak {lo' : Nat} (A : SHL G lo h s σ N) (l : lo' ≤ lo) : SHL G lo' h s σ N := by
  obtain ⟨d, el, ar, n, tl, ta, nt, F, K, a, b⟩ := A
  exact ⟨d, el, ar, n, tl, ta, nt, F, K, a.weak l, b⟩
theorem SHL.cls (A : SHL G lo h s σ N) : cls_at h s = some 1 := by
  obtain ⟨d, el, ar, n, tl, ta, nt, F, K, a, b⟩ := A
  exact cax a.1
theorem kst {K : List (Nat × tt_)} {i : Nat} {k : Nat × tt_} (h : K[i]? = some k) : (K.map Prod.snd)[i]? = some k.2 := by rw [List.getElem?_map, h]; rfl
/-- same text, same address; same start, same text -/
theorem txt_inj {a st st' ln ln' mq mq' : Nat} (h1 : txt h a st ln mq) (h2 : txt h a st' ln' mq') (l1 : st < 2 ^ 31) (l2 : st' < 2 ^ 31) : st = st' := by
  unfold txt at h1 h2
  rw [h1] at h2
  have h2 : nI st = nI st' ∧ nI ln = nI ln' ∧ nI mq = nI mq' := by simpa using h2
  exact (nI_eq' l1 l2).mp h2.1
theorem K_inj (hk : ∀ k ∈ K, txt h k.1 k.2.1 k.2.2.1 k.2.2.2) (hc : chn 0 (K.map Prod.snd)) (ht : tsum (K.map Prod.snd) ≤ 100) {a b : Nat × tt_} (ha : a ∈ K) (hb : b ∈ K) : a.1 = b.1 ↔ a.2.1 = b.2.1 := by
  obtain ⟨i, hi⟩ := List.getElem?_of_mem ha
  obtain ⟨j, hj⟩ := List.getElem?_of_mem hb
  have ci := chn_at hc (kst hi)
  have cj := chn_at hc (kst hj)
  constructor
  · intro e
    have h1 := hk a ha
    have h2 := hk b hb
    rw [e] at h1
    exact txt_inj h1 h2 (by omega) (by omega)
  · intro e
    have := chn_inj hc (kst hi) (kst hj) e
    subst this
    rw [hi] at hj
    rw [Option.some.inj hj]
theorem X1_end_ (A : SHA G lo h s d el ar n tl ta nt F bl K sq gb) (hc : chn 0 (K.map Prod.snd)) (ht : tsum (K.map Prod.snd) ≤ 100) : QE G M_X1_end [.ref s] h (nI (tsum (K.map Prod.snd))) := by
  obtain ⟨a1, a2, ⟨mt, ft, a3⟩, a4, a5⟩ := A
  have hl := a3.len
  rw [List.length_map] at hl
  refine e_X1_end ⟨_, gfx a1 rfl rfl, cax a3.1, (J2_isEmpty_ a3).use ⟨fun c => ?_, fun c => ⟨_, rfl, ?_, rfl⟩⟩⟩
  · have hne : ¬ (K.map Prod.fst).length = 0 := of_decide_eq_false ((bI_0 _).mp c)
    rw [List.length_map] at hne
    have hx : K[K.length - 1]? = some (K[K.length - 1]'(by omega)) := List.getElem?_eq_getElem (by omega)
    have hk := a4 _ (List.mem_of_getElem? hx)
    refine ⟨_, gfx a1 rfl rfl, _, gfx a1 rfl rfl, cax a3.1, (J2_size_ a3).use ⟨cax a3.1, ?_⟩⟩
    rw [List.length_map, show nI K.length - 1 = nI (K.length - 1) from nI_sub' (b := 1) (by omega)]
    refine (J2_get_ a3 (by rw [List.getElem?_map, hx]; rfl)).use ⟨7, cax hk, by simp, cax hk, (X7_end_ hk).use ⟨_, rfl, ?_, rfl⟩⟩
    have := chn_last hc (t := (K[K.length - 1]'(by omega)).2) (by rw [List.length_map, List.getElem?_map, hx]; rfl)
    congr 1; omega
  · have hne : (K.map Prod.fst).length = 0 := of_decide_eq_true ((bI_ne0 _).mp c)
    rw [List.length_map] at hne
    rw [List.length_eq_zero_iff.mp hne]
    rfl
theorem X1_fits_ {l : Nat} (A : SHA G lo h s d el ar n tl ta nt F bl K sq gb) (hc : chn 0 (K.map Prod.snd)) (ht : tsum (K.map Prod.snd) ≤ 100) (hl : l ≤ 40) : QE G M_X1_fits [.ref s, .int (nI l)] h (bI (decide (tsum (K.map Prod.snd) + l ≤ 100))) := by
  refine e_X1_fits ⟨cax A.1, (X1_end_ A hc ht).use ?_⟩
  rw [nI_add']
  refine ⟨fun c => ⟨nI_b0, _, rfl, ?_, rfl⟩, fun c => ⟨nI_b1, _, rfl, ?_, rfl⟩⟩
  · have := (nI_lt' (a := 100) (by omega) (by omega)).mp c
    rw [decide_eq_false (by omega)]; rfl
  · have : ¬ 100 < tsum (K.map Prod.snd) + l := fun e => c ((nI_lt' (a := 100) (by omega) (by omega)).mpr e)
    rw [decide_eq_true (by omega)]; rfl
theorem pts_any (hk : ∀ k ∈ K, txt h k.1 k.2.1 k.2.2.1 k.2.2.2) (hc : chn 0 (K.map Prod.snd)) (ht : tsum (K.map Prod.snd) ≤ 100) (hF : ∀ x ∈ F, (et x.1, x.2) ∈ K) {k : Nat × tt_} (hx : k ∈ K) : (F.map Prod.fst).any (fun e => et e == k.1) = pts (F.map rwo) k.2.1 := by
  unfold pts
  rw [List.any_map, List.any_map]
  rw [Bool.eq_iff_iff, List.any_eq_true, List.any_eq_true]
  constructor
  · rintro ⟨x, h1, h2⟩
    refine ⟨x, h1, ?_⟩
    have h2 : et x.1 = k.1 := by simpa using h2
    show (x.2.1 == k.2.1) = true
    rw [beq_iff_eq]
    exact (K_inj hk hc ht (hF x h1) hx).mp h2
  · rintro ⟨x, h1, h2⟩
    refine ⟨x, h1, ?_⟩
    have h2 : x.2.1 = k.2.1 := beq_iff_eq.mp h2
    show (et x.1 == k.1) = true
    rw [beq_iff_eq]
    exact (K_inj hk hc ht (hF x h1) hx).mpr h2
theorem X1_isDead_ {k : Nat × tt_} (hw : hwf h) (A : SHA G lo h s d el ar n tl ta nt F bl K sq gb) (hc : chn 0 (K.map Prod.snd)) (ht : tsum (K.map Prod.snd) ≤ 100) (hx : k ∈ K) : QI G M_X1_isDead [.ref s, .ref k.1] h (bI (!pts (F.map rwo) k.2.1)) 5 := by
  obtain ⟨a1, a2, ⟨mt, ft, a3⟩, a4, a5, -⟩ := A
  refine e_X1_isDead ⟨_, gfx a1 rfl rfl, cax a2.1, (X2_pointsTo_ hw a2).use fun h' _ _ l m => ?_⟩
  rw [pts_any a4 hc ht a5 hx]
  refine ⟨fun c => ⟨nI_b0, _, rfl, ?_, l, m⟩, fun c => ⟨nI_b1, _, rfl, ?_, l, m⟩⟩
  · rw [(bI_ne0 _).mp c]; rfl
  · rw [(bI_0 _).mp (Classical.not_not.mp c)]; rfl
def usum (R : List rw_) (b : Bool) (T : List tt_) : Nat := tsum (T.filter (fun t => (!pts R t.1) == b))
theorem X1_units_ {b : Bool} (hw : hwf h) (A : SHA G lo h s d el ar n tl ta nt F bl K sq gb) (hc : chn 0 (K.map Prod.snd)) (ht : tsum (K.map Prod.snd) ≤ 100) : QI G M_X1_units [.ref s, .int (bI b)] h (nI (usum (F.map rwo) b (K.map Prod.snd))) (5 * K.length + 5) := by
  have A0 := A
  obtain ⟨a1, a2, ⟨mt, ft, a3⟩, a4, a5, -⟩ := A
  have hlen : K.length ≤ 100 := by have := chn_len hc; rw [List.length_map] at this; omega
  have key : ∀ (j i : Nat) (h1 : hp_), K.length - i = j → i ≤ K.length → hwf h1 → Le h h1 → IT h1 (hsz h) tl mt i → hm h1 ≤ hm h + 5 * i + 5 →
      Go_ G M_X1_units 12 [some (.ref s), some (.int (bI b)), some (.int (nI (usum (F.map rwo) b ((K.take i).map Prod.snd)))), some (.ref (hsz h)), none] [] h1 (RI fun y h' => y = nI (usum (F.map rwo) b (K.map Prod.snd)) ∧ Le h h' ∧ hm h' ≤ hm h + (5 * K.length + 5)) := by
    intro j
    induction j with
    | zero =>
      intro i h1 hj hi w1 b1 b2 b3
      have I0 := b2
      obtain ⟨_, I⟩ := b2
      refine w_X1_units_12 ⟨cax I, (J13_hasNext_ (a3.le b1) I0 (by rw [List.length_map]; omega)).use ⟨fun _ => ⟨_, rfl, ?_, b1, by omega⟩, fun c => ?_⟩⟩
      · rw [List.take_of_length_le (by omega)]
      · rw [List.length_map, decide_eq_false (by omega)] at c
        exact absurd rfl c
    | succ j ih =>
      intro i h1 hj hi w1 b1 b2 b3
      have hx : K[i]? = some K[i] := List.getElem?_eq_getElem (by omega)
      have hxm := List.mem_of_getElem? hx
      have I0 := b2
      obtain ⟨_, I⟩ := b2
      refine w_X1_units_12 ⟨cax I, (J13_hasNext_ (a3.le b1) I0 (by rw [List.length_map]; omega)).use ⟨fun c => ?_, fun _ => ⟨cax I, (J13_next_ (x := K[i].1) (a3.le b1) I0 (by rw [List.getElem?_map, hx]; rfl)).rn ?_⟩⟩⟩
      · rw [List.length_map, decide_eq_true (by omega)] at c
        exact absurd c (by decide)
      · rintro _ h2 w2 - ⟨rfl, e2⟩
        have l2 : Le h h2 := fun q e z => by
          rw [e2, hset_ne _ _ (by have := hlt hw z; omega)]
          exact b1 q e z
        have J : IT h2 (hsz h) tl mt (i + 1) := ⟨_, by rw [e2]; exact hset_at _ _ _⟩
        have m2 : hm h2 = hm h1 := by rw [e2, hm_set]
        have kt : txt h2 _ _ _ _ := (a4 _ hxm).le l2
        have A2 := A0.le l2
        refine ⟨7, cax kt, by simp, cax A2.1, (X1_isDead_ w2 A2 hc ht hxm).use fun h3 w3 s3 l3 m3 => ?_⟩
        obtain ⟨_, J⟩ := J
        have nx := ih (i + 1) h3 (by omega) (by omega) w3 (l2.trans l3) ⟨_, l3 _ _ J⟩ (by omega)
        have htk : (K.take (i + 1)).map Prod.snd = (K.take i).map Prod.snd ++ [K[i].2] := by
          rw [List.take_add_one, hx, List.map_append]; rfl
        rw [htk] at nx
        refine ⟨fun c => ?_, fun c => ⟨_, gfx (l3 _ _ kt) rfl rfl, ?_⟩⟩
        · have hf : ((!pts (F.map rwo) K[i].2.1) == b) = false := by
            rw [beq_eq_false_iff_ne]
            intro e; exact c (by rw [e])
          have : usum (F.map rwo) b ((K.take i).map Prod.snd ++ [K[i].2]) = usum (F.map rwo) b ((K.take i).map Prod.snd) := by
            unfold usum
            rw [List.filter_append, tsum_app]
            simp [List.filter, hf, tsum]
          rw [this] at nx
          rw [Int32.add_zero]
          exact nx
        · have hf : ((!pts (F.map rwo) K[i].2.1) == b) = true := by
            rw [beq_iff_eq]
            have := Classical.not_not.mp c
            generalize (!pts (F.map rwo) K[i].2.1) = z at this
            cases z <;> cases b <;> first | rfl | exact absurd this (by decide)
          have : usum (F.map rwo) b ((K.take i).map Prod.snd ++ [K[i].2]) = usum (F.map rwo) b ((K.take i).map Prod.snd) + K[i].2.2.1 := by
            unfold usum
            rw [List.filter_append, tsum_app]
            simp [List.filter, hf, tsum]
          rw [this] at nx
          rw [nI_add']
          exact nx
  refine e_X1_units ⟨_, gfx a1 rfl rfl, cax a3.1, (J2_iterator_ hw a3).rn ?_⟩
  rintro _ h1 w1 - ⟨rfl, I, l1, m1⟩
  exact key K.length 0 h1 rfl (Nat.zero_le _) w1 l1 I (by omega)
end D15
