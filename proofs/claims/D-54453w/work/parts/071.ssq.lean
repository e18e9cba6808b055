/-! SPECS 21: a shelf is squeezed -/
set_option maxRecDepth 100000
def livT (R : List rw_) (T : List tt_) : List tt_ := T.filter (fun t => pts R t.1)
def nst (L : List tt_) (s : Nat) : Nat := tsum (L.filter (fun t => decide (t.1 < s)))
def relay : Nat → List tt_ → List tt_
  | _, [] => []
  | s, t :: ts => (s, t.2) :: relay (s + t.2.1) ts
def sqzR (L : List tt_) (r : rw_) : rw_ := (r.1, r.2.1, (nst L r.2.2.1, r.2.2.2))
def sqzS (σ : sg_) : Int32 × sg_ := (nI (tsum σ.2.1) - nI (tsum (livT σ.1 σ.2.1)), (σ.1.map (sqzR (livT σ.1 σ.2.1)), relay 0 (livT σ.1 σ.2.1), σ.2.2.1, σ.2.2.2.1 + 1, σ.2.2.2.2 + (nI (tsum σ.2.1) - nI (tsum (livT σ.1 σ.2.1)))))
theorem relay_app (s : Nat) (a b : List tt_) : relay s (a ++ b) = relay s a ++ relay (s + tsum a) b := by
  induction a generalizing s with
  | nil => rfl
  | cons t a ih => simp only [List.cons_append, relay, tsum, ih, Nat.add_assoc]
theorem tsum_relay (s : Nat) (a : List tt_) : tsum (relay s a) = tsum a := by
  induction a generalizing s with
  | nil => rfl
  | cons t a ih => simp only [relay, tsum, ih]
theorem relay_len (s : Nat) (a : List tt_) : (relay s a).length = a.length := by
  induction a generalizing s with
  | nil => rfl
  | cons t a ih => simp only [relay, List.length_cons, ih]
def tok (t : tt_) : Prop := 1 ≤ t.2.1 ∧ t.2.1 ≤ 40 ∧ t.2.2 ≤ 9999
theorem chn_relay (s : Nat) {a : List tt_} (h : ∀ t ∈ a, tok t) : chn s (relay s a) := by
  induction a generalizing s with
  | nil => trivial
  | cons t a ih =>
    obtain ⟨h1, h2, h3⟩ := h t (List.mem_cons_self ..)
    exact ⟨rfl, h1, h2, h3, ih _ (fun x hx => h x (List.mem_cons_of_mem _ hx))⟩
theorem chn_tok {s : Nat} {T : List tt_} (h : chn s T) : ∀ t ∈ T, tok t := by
  intro t ht
  obtain ⟨i, hi⟩ := List.getElem?_of_mem ht
  have := chn_at h hi
  exact ⟨this.2.1, this.2.2.1, this.2.2.2.1⟩
theorem chn_pw {s : Nat} {T : List tt_} (h : chn s T) : T.Pairwise (fun a b => a.1 < b.1) := by
  rw [List.pairwise_iff_getElem]
  intro i j hi hj hij
  have a := chn_lt h (List.getElem?_eq_getElem hi) (List.getElem?_eq_getElem hj) hij
  have b := chn_at h (List.getElem?_eq_getElem hi)
  omega
theorem livT_pw {s : Nat} {R : List rw_} {T : List tt_} (h : chn s T) : (livT R T).Pairwise (fun a b => a.1 < b.1) := List.Pairwise.sublist List.filter_sublist (chn_pw h)
theorem tsum_filter_le (p : tt_ → Bool) (T : List tt_) : tsum (T.filter p) ≤ tsum T := by
  induction T with
  | nil => exact Nat.le_refl _
  | cons a T ih =>
    by_cases hp : p a = true
    · rw [List.filter_cons_of_pos hp]; simp only [tsum]; omega
    · rw [List.filter_cons_of_neg hp]; simp only [tsum]; omega
theorem nst_at {L : List tt_} (h : L.Pairwise (fun a b => a.1 < b.1)) {j : Nat} {t : tt_} (hj : L[j]? = some t) : nst L t.1 = tsum (L.take j) := by
  induction L generalizing j with
  | nil => simp at hj
  | cons a L ih =>
    obtain ⟨h1, h2⟩ := List.pairwise_cons.mp h
    unfold nst
    cases j with
    | zero =>
      have : a = t := by simpa using hj
      subst this
      have : (a :: L).filter (fun t => decide (t.1 < a.1)) = [] := by
        rw [List.filter_eq_nil_iff]
        intro x hx
        rcases List.mem_cons.mp hx with rfl | hx
        · simp
        · have := h1 x hx
          simp; omega
      rw [this]; rfl
    | succ j =>
      have hj : L[j]? = some t := by simpa using hj
      have := h1 t (List.mem_of_getElem? hj)
      rw [List.filter_cons_of_pos (by simpa using this), List.take_succ_cons]
      simp only [tsum]
      have := ih h2 hj
      unfold nst at this
      rw [this]
/-- all but iterators of directories and entries is kept -/
def KQ (h h' : hp_) : Prop := ∀ q e, (∀ fs, e ≠ eO 4 fs ∧ e ≠ eO 5 fs ∧ e ≠ eO 6 fs) → hget h q = some e → hget h' q = some e
theorem KQ.tr {h h1 h2 : hp_} (a : KQ h h1) (b : KQ h1 h2) : KQ h h2 := fun q e c z => b q e c (a q e c z)
theorem drop_at {α : Type} {l : List α} {p : Nat} {x : α} (h : l[p]? = some x) : l.drop p = x :: l.drop (p + 1) := by
  have hl := (List.getElem?_eq_some_iff.mp h)
  obtain ⟨h1, h2⟩ := hl
  rw [List.drop_eq_getElem_cons h1, h2]
theorem step_map {α : Type} {g : α → α} {l : List α} {p : Nat} {x : α} (h : l[p]? = some x) : ((l.take p).map g ++ l.drop p).set p (g x) = (l.take (p + 1)).map g ++ l.drop (p + 1) ∧ ((l.take p).map g ++ l.drop p)[p]? = some x := by
  have hl := (List.getElem?_eq_some_iff.mp h).1
  have hlen : ((l.take p).map g).length = p := by rw [List.length_map, List.length_take]; omega
  constructor
  · rw [List.set_append_right _ _ (by omega), hlen, Nat.sub_self, drop_at h, List.set_cons_zero, List.take_add_one, h, List.map_append]
    show _ = ((l.take p).map g ++ [g x]) ++ _
    rw [List.append_assoc]
    rfl
  · rw [List.getElem?_append_right (by omega), hlen, Nat.sub_self, drop_at h]
    rfl
section D21
variable {G : g_} {lo : Nat} {h : hp_} {s d el ar n tl ta nt : Nat} {F : List (EN × tt_)} {bl : Nat} {K : List (Nat × tt_)} {sq gb : Int32} {σ : sg_} {N : Nat}
theorem X1_endK_ {mt : Int32} {ft : Nat → Option Nat} (a1 : hget h s = some (eO 1 [.ref d, .ref tl, .int sq, .int gb])) (a3 : AL G h tl (K.map Prod.fst) mt ta nt ft) (a4 : ∀ k ∈ K, txt h k.1 k.2.1 k.2.2.1 k.2.2.2) (hc : chn 0 (K.map Prod.snd)) (ht : tsum (K.map Prod.snd) ≤ 100) : QE G M_X1_end [.ref s] h (nI (tsum (K.map Prod.snd))) := by
  have hl := a3.len
  rw [List.length_map] at hl
  refine e_X1_end ⟨_, gfx a1 rfl rfl, cax a3.1, (J2_isEmpty_ a3).use ⟨fun c => ?_, fun c => ⟨_, rfl, ?_, rfl⟩⟩⟩
  · have hne : ¬ (K.map Prod.fst).length = 0 := of_decide_eq_false ((bI_0 _).mp c)
    rw [List.length_map] at hne
    have hx : K[K.length - 1]? = some (K[K.length - 1]'(by omega)) := List.getElem?_eq_getElem (by omega)
    have hk := a4 _ (List.mem_of_getElem? hx)
    refine ⟨_, gfx a1 rfl rfl, _, gfx a1 rfl rfl, cax a3.1, (J2_size_ a3).use ⟨cax a3.1, ?_⟩⟩
    rw [List.length_map, show nI K.length - 1 = nI (K.length - 1) from nI_sub' (b := 1) (by omega)]
    refine (J2_get_ a3 (by rw [List.getElem?_map, hx]; rfl)).use ⟨7, cax hk, by simp, cax hk, (X7_end_ hk).use ⟨_, rfl, ?_, rfl⟩⟩
    have := chn_last hc (t := (K[K.length - 1]'(by omega)).2) (by rw [List.length_map, List.getElem?_map, hx]; rfl)
    congr 1; omega
  · have hne : (K.map Prod.fst).length = 0 := of_decide_eq_true ((bI_ne0 _).mp c)
    rw [List.length_map] at hne
    rw [List.length_eq_zero_iff.mp hne]
    rfl
theorem J2_clearK_ {l : Nat} {X : List Nat} {mc : Int32} {f : Nat → Option Nat} (hl : l < hsz h) (A : AL G h l X mc ar n f) : Do_ G M_J2_clear [.ref l] h (RV fun h' => (∃ f', AL G h' l [] (mc + 1) ar n f') ∧ KL l ar n h h' ∧ hm h' = hm h) := by
  by_cases hn : n = 0
  · obtain ⟨a1, a2, a3, a4, a5, a6, a7⟩ := A
    have hX : X.length = 0 := by omega
    have hne : ar ≠ l := hgn a2 a1 (by simp)
    refine e_J2_clear ⟨_, gfx a1 rfl rfl, _, pfx a1 rfl rfl rfl, _, gfx (hset_at _ _ _) rfl rfl, _, gfx (hset_at _ _ _) rfl rfl, _, pfx (hset_at _ _ _) rfl rfl rfl, w_J2_clear_27 ⟨fun _ => ⟨rfl, ⟨f, hset_at _ _ _, by rw [hset_ne _ _ hne, hset_ne _ _ hne]; exact a2, Nat.zero_le _, a4, fun i x hx => by simp at hx, a6, a7⟩, fun q e h1 h2 z => by rw [hset_ne _ _ h1, hset_ne _ _ h1]; exact z, by rw [hm_set, hm_set]⟩, fun c => ?_⟩⟩
    rw [hX] at c
    exact absurd (by decide) c
  · refine (J2_clear_ hl A).rv ?_
    rintro h' - - ⟨a, b⟩
    exact ⟨a, b.kl hn, b.2⟩
theorem DR.re {p v : Nat} {x : EN × tt_} {t' : tt_} (D : DR G h d el ar n (F.map Prod.fst) bl) (hN : ∀ (i j : Nat) (x y : EN × tt_), F[i]? = some x → F[j]? = some y → en x.1 = en y.1 → i = j) (hi : F[p]? = some x) :
    DR G (hset h (ea x.1) (ecell (en x.1) (eg x.1) v)) d el ar n ((F.set p ((ea x.1, en x.1, eg x.1, v), t')).map Prod.fst) bl := by
  obtain ⟨d1, ⟨mc, f, d2⟩, d3, d4, d5⟩ := D
  have hxm := List.mem_of_getElem? hi
  have kx : ent h x.1 := d3 x.1 (List.mem_map_of_mem hxm)
  have hil := (List.getElem?_eq_some_iff.mp hi).1
  have kp : ∀ q e, q ≠ ea x.1 → hget h q = some e → hget (hset h (ea x.1) (ecell (en x.1) (eg x.1) v)) q = some e := fun q e hq z => by rw [hset_ne _ _ hq]; exact z
  have hmap : ((F.set p ((ea x.1, en x.1, eg x.1, v), t')).map Prod.fst).map ea = (F.map Prod.fst).map ea := by
    rw [List.map_set, List.map_set]
    apply List.ext_getElem?
    intro j
    rw [List.getElem?_set]
    by_cases hij : p = j
    · subst hij
      rw [if_pos rfl, if_pos (by rw [List.length_map, List.length_map]; exact hil), List.getElem?_map, List.getElem?_map, hi]
      rfl
    · rw [if_neg hij]
  refine ⟨kp _ _ (kx.neO d1 (by omega)) d1, ⟨mc, f, ?_⟩, fun e he => ?_, by rw [List.length_map, List.length_set]; rw [List.length_map] at d4; exact d4, d5⟩
  · rw [hmap]
    exact ⟨kp _ _ (kx.neO d2.1 (by omega)) d2.1, kp _ _ (kx.neR d2.2.1) d2.2.1, d2.2.2⟩
  · obtain ⟨y, hy, rfl⟩ := List.mem_map.mp he
    obtain ⟨j, hj⟩ := List.getElem?_of_mem hy
    rw [List.getElem?_set] at hj
    by_cases hij : p = j
    · rw [if_pos hij, if_pos hil] at hj
      have hj := Option.some.inj hj
      subst hj
      exact ⟨hset_at _ _ _, kx.2⟩
    · rw [if_neg hij] at hj
      have ky : ent h y.1 := d3 y.1 (List.mem_map_of_mem (List.mem_of_getElem? hj))
      exact ⟨kp _ _ (ky.ne kx (fun e => hij (hN _ _ _ _ hi hj e.symm))) ky.1, ky.2⟩
/-- an entry of the text oa gets the text mv -/
def mvT (oa mv : Nat) (t' : tt_) (x : EN × tt_) : EN × tt_ := if et x.1 = oa then ((ea x.1, en x.1, eg x.1, mv), t') else x
theorem mvT_e (oa mv : Nat) (t' : tt_) (x : EN × tt_) : ea (mvT oa mv t' x).1 = ea x.1 ∧ en (mvT oa mv t' x).1 = en x.1 ∧ eg (mvT oa mv t' x).1 = eg x.1 := by
  unfold mvT; split <;> exact ⟨rfl, rfl, rfl⟩
theorem DR.m1 {it : Nat} {h' : hp_} {fs : List Value} {E : List EN} (D : DR G h d el ar n E bl) (I : hget h it = some (eO 4 fs)) (m : M1 it h h') : DR G h' d el ar n E bl := by
  obtain ⟨d1, ⟨mc, f, d2⟩, d3, d4⟩ := D
  refine ⟨by rw [m.1 _ (hgn d1 I (by simp))]; exact d1, ⟨mc, f, d2.kept (m.1 _ (hgn d2.1 I (by simp))) (m.1 _ (hgn d2.2.1 I (by simp)))⟩, fun e he => ⟨?_, (d3 e he).2⟩, d4⟩
  rw [m.1 _ (Ne.symm ((d3 e he).neO I (by omega)))]
  exact (d3 e he).1
theorem sq132_ {l1 : Int32} {it2 oa mv it3 : Nat} {t' : tt_} {h0 : hp_} {Q : o_ → hp_ → Prop}
    (hN : ∀ (i j : Nat) (x y : EN × tt_), F[i]? = some x → F[j]? = some y → en x.1 = en y.1 → i = j) (hlo : ∀ x ∈ F, lo ≤ ea x.1) (hit : lo ≤ it3)
    (fin : ∀ h2, hwf h2 → hsz h0 ≤ hsz h2 → DR G h2 d el ar n ((F.map (mvT oa mv t')).map Prod.fst) bl → KQ h0 h2 → Fr lo h0 h2 → hm h2 = hm h0 → Go_ G M_X1_squeeze 80 [some (.ref s), some (.int l1), none, some (.ref it2), none, none, none, none] [] h2 Q) :
    ∀ (m p : Nat) (h1 : hp_), F.length - p = m → p ≤ F.length → hwf h1 → hsz h0 ≤ hsz h1 → DR G h1 d el ar n (((F.take p).map (mvT oa mv t') ++ F.drop p).map Prod.fst) bl → IW h1 it3 d p F.length → KQ h0 h1 → Fr lo h0 h1 → hm h1 = hm h0 →
      Go_ G M_X1_squeeze 132 [some (.ref s), some (.int l1), none, some (.ref it2), some (.ref oa), some (.ref mv), some (.ref it3), none] [] h1 Q := by
  intro m
  induction m with
  | zero =>
    intro p h1 hm_ hp w1 s1 D1 I1 k1 f1 g1
    have I0 := I1
    have hl := D1.len
    rw [List.length_map, List.length_append, List.length_map, List.length_take, List.length_drop] at hl
    obtain ⟨_, I⟩ := I1
    refine w_X1_squeeze_132 ⟨cax I, (X4_hasNext_ I0 (by omega) (by omega)).use ⟨fun _ => ?_, fun c => ?_⟩⟩
    · rw [List.take_of_length_le (by omega), List.drop_of_length_le (by omega), List.append_nil] at D1
      exact fin h1 w1 s1 D1 k1 f1 g1
    · rw [decide_eq_false (by omega)] at c
      exact absurd rfl c
  | succ m ih =>
    intro p h1 hm_ hp w1 s1 D1 I1 k1 f1 g1
    have I0 := I1
    have hl := D1.len
    rw [List.length_map, List.length_append, List.length_map, List.length_take, List.length_drop] at hl
    obtain ⟨_, I⟩ := I1
    have hx : F[p]? = some F[p] := List.getElem?_eq_getElem (by omega)
    obtain ⟨st1, st2⟩ := step_map (g := mvT oa mv t') hx
    have hxm := List.mem_of_getElem? hx
    refine w_X1_squeeze_132 ⟨cax I, (X4_hasNext_ I0 (by omega) (by omega)).use ⟨fun c => ?_, fun _ => ⟨cax I, (X4_next_ (e := F[p].1) D1 I0 (by rw [List.getElem?_map, st2]; rfl)).rn ?_⟩⟩⟩
    · rw [decide_eq_true (by omega)] at c
      exact absurd c (by decide)
    · rintro _ h2 w2 s2 ⟨rfl, J, m2⟩
      have D2 := D1.m1 I m2
      have kx : ent h2 F[p].1 := D2.2.2.1 F[p].1 (List.mem_map_of_mem (List.mem_of_getElem? st2))
      obtain ⟨c, hc1, hc2⟩ := kx.cls
      have k2 : KQ h1 h2 := fun q e hq z => by
        rw [m2.1 q (fun e9 => by rw [e9, I] at z; exact (hq _).1 (Option.some.inj z).symm)]
        exact z
      have f2 : Fr lo h1 h2 := fun q e hq z => by
        rw [m2.1 q (by omega)]; exact z
      have hN2 : ∀ (i j : Nat) (x y : EN × tt_), ((F.take p).map (mvT oa mv t') ++ F.drop p)[i]? = some x → ((F.take p).map (mvT oa mv t') ++ F.drop p)[j]? = some y → en x.1 = en y.1 → i = j := by
        have at_ : ∀ (i : Nat) (x : EN × tt_), ((F.take p).map (mvT oa mv t') ++ F.drop p)[i]? = some x → ∃ z, F[i]? = some z ∧ en x.1 = en z.1 := by
          intro i x hi
          rw [List.getElem?_append] at hi
          by_cases hip : i < ((F.take p).map (mvT oa mv t')).length
          · rw [if_pos hip, List.getElem?_map] at hi
            rw [List.length_map, List.length_take] at hip
            rw [List.getElem?_take_of_lt (by omega)] at hi
            cases hz : F[i]? with
            | none => rw [hz] at hi; cases hi
            | some z =>
              rw [hz] at hi
              have hi : mvT oa mv t' z = x := Option.some.inj hi
              exact ⟨z, rfl, by rw [← hi]; exact (mvT_e _ _ _ _).2.1⟩
          · rw [if_neg hip, List.getElem?_drop] at hi
            rw [List.length_map, List.length_take] at hip
            rw [List.length_map, List.length_take, show p + (i - min p F.length) = i from by omega] at hi
            exact ⟨x, hi, rfl⟩
        intro i j x y hi hj e
        obtain ⟨z, z1, z2⟩ := at_ i x hi
        obtain ⟨u, u1, u2⟩ := at_ j y hj
        exact hN i j z u z1 u1 (by rw [← z2, ← u2]; exact e)
      -- the write, whatever it writes
      have wr : ∀ v, ((ea F[p].1, en F[p].1, eg F[p].1, v), (mvT oa mv t' F[p]).2) = mvT oa mv t' F[p] → Go_ G M_X1_squeeze 132 [some (.ref s), some (.int l1), none, some (.ref it2), some (.ref oa), some (.ref mv), some (.ref it3), none] [] (hset h2 (ea F[p].1) (ecell (en F[p].1) (eg F[p].1) v)) Q := by
        intro v hv
        have D3 := D2.re (v := v) (t' := (mvT oa mv t' F[p]).2) hN2 st2
        rw [hv, st1] at D3
        have kq : ∀ q e, (∀ fs, e ≠ eO 4 fs ∧ e ≠ eO 5 fs ∧ e ≠ eO 6 fs) → hget h2 q = some e → q ≠ ea F[p].1 := by
          intro q e hq z e9
          rw [e9, kx.1] at z
          have z := Option.some.inj z
          cases hg : eg F[p].1 with
          | none => rw [hg] at z; exact (hq _).2.1 z.symm
          | some y => rw [hg] at z; exact (hq _).2.2 z.symm
        obtain ⟨_, J⟩ := J
        refine ih (p + 1) _ (by omega) (by omega) (hwf_set w2 _ (hlt w2 kx.1)) (by rw [hsz_set]; omega) D3 ⟨_, by rw [hset_ne _ _ (kx.neO J (by omega))]; exact J⟩ ((k1.tr k2).tr (fun q e hq z => by rw [hset_ne _ _ (kq q e hq z)]; exact z)) ((f1.trans f2).trans (Fr.set (hlo _ hxm))) (by rw [hm_set, m2.2]; exact g1)
      refine ⟨c, hc1, hc2, _, kx.text, fun c2 => ⟨_, pf_text kx, ?_⟩, fun c2 => ⟨_, kx.text, _, pf_text kx, ?_⟩⟩
      · have h1 : et F[p].1 = oa := by simpa using c2
        refine wr mv ?_
        unfold mvT
        rw [if_pos h1]
      · have h1 : ¬ et F[p].1 = oa := fun e => c2 (by rw [show et F[p].1 = oa from e])
        refine wr (et F[p].1) ?_
        unfold mvT
        rw [if_neg h1]
end D21
