/-! SPECS 7: the directory is written, copied; its blocks -/
set_option maxRecDepth 100000
theorem map_ins {α β : Type} (f : α → β) (a : α) : ∀ (i : Nat) (l : List α), (l.insertIdx i a).map f = (l.map f).insertIdx i (f a)
  | 0, l => by simp
  | i + 1, [] => by simp
  | i + 1, x :: t => by simp [map_ins f a i t]
theorem map_ers {α β : Type} (f : α → β) : ∀ (i : Nat) (l : List α), (l.eraseIdx i).map f = (l.map f).eraseIdx i
  | _, [] => by simp
  | 0, x :: t => by simp
  | i + 1, x :: t => by simp [map_ers f i t]
theorem mem_ins {α : Type} {a x : α} {i : Nat} {l : List α} (h : x ∈ l.insertIdx i a) : x = a ∨ x ∈ l := by
  by_cases hi : i ≤ l.length
  · exact (List.mem_insertIdx hi).mp h
  · rw [List.insertIdx_of_length_lt (by omega)] at h
    exact Or.inr h
theorem mem_ers {α : Type} {x : α} {i : Nat} {l : List α} (h : x ∈ l.eraseIdx i) : x ∈ l := List.mem_of_mem_eraseIdx h
/-- all but a list's own two cells is kept -/
def KL (l ar n : Nat) (h h' : hp_) : Prop := ∀ q e, q ≠ l → (q ≠ ar ∨ n = 0) → hget h q = some e → hget h' q = some e
theorem KL.le {l ar n : Nat} {h0 h h' : hp_} (hw : hwf h0) (x : Le h0 h) (h1 : hsz h0 ≤ l) (h2 : hsz h0 ≤ ar ∨ n = 0) (m : KL l ar n h h') : Le h0 h' := fun q e z => by
  have := hlt hw z
  exact m q e (by omega) (by omega) (x q e z)
theorem KL.fr {l ar n k : Nat} {h h' : hp_} (m : KL l ar n h h') (h1 : k ≤ l) (h2 : k ≤ ar ∨ n = 0) : Fr k h h' := fun q e hq z => m q e (by omega) (by omega) z
theorem M2.kl {l ar : Nat} {h h' : hp_} (m : M2 l ar h h') {n : Nat} (hn : n ≠ 0) : KL l ar n h h' := fun q e h1 h2 z => by
  rw [m.1 q h1 (h2.resolve_right hn)]
  exact z
theorem KL.pre {l ar n : Nat} {h h1 h' : hp_} (x : Le h h1) (m : KL l ar n h1 h') : KL l ar n h h' := fun q e a b z => m q e a b (x q e z)
section D7
variable {G : g_} {h : hp_} {d el ar n bl : Nat} {E : List EN}
theorem ent.kl {h' : hp_} {e : EN} {mc : Int32} {X : List Nat} {f : Nat → Option Nat} (k : ent h e) (A : AL G h el X mc ar n f) (m : KL el ar n h h') : ent h' e := by
  obtain ⟨a, nm, g, t⟩ := e
  refine ⟨m _ _ ?_ (Or.inl ?_) k.1, k.2⟩
  · have k1 := k.1
    cases g with
    | none => exact hgn k1 A.1 (by simp [ecell])
    | some x => exact hgn k1 A.1 (by simp [ecell])
  · have k1 := k.1
    cases g with
    | none => exact hgn k1 A.2.1 (by simp [ecell])
    | some x => exact hgn k1 A.2.1 (by simp [ecell])
/-- the directory, when its list was changed -/
theorem DR.kl {h' : hp_} {E' : List EN} {mc' : Int32} {ar' n' : Nat} {f' : Nat → Option Nat} (D : DR G h d el ar n E bl) (m : KL el ar n h h') (A' : AL G h' el (E'.map ea) mc' ar' n' f') (he : ∀ e ∈ E', ent h e) (hl : E'.length ≤ 24) : DR G h' d el ar' n' E' bl := by
  obtain ⟨d1, ⟨mc, f, d2⟩, d3, d4, d5⟩ := D
  exact ⟨m _ _ (hgn d1 d2.1 (by simp)) (Or.inl (hgn d1 d2.2.1 (by simp))) d1, ⟨mc', f', A'⟩, fun e q => (he e q).kl d2 m, hl, d5⟩
theorem X2_put_ {e : EN} {p : Nat} (hw : hwf h) (D : DR G h d el ar n E bl) (k : ent h e) (hl : E.length < 24) (hp : p ≤ E.length) (h1 : ∀ y, 0 < p → E[p - 1]? = some y → en y ≤ en e) (h2 : ∀ i y, p ≤ i → E[i]? = some y → en e < en y) :
    Do_ G M_X2_put [.ref d, .ref (ea e)] h (RV fun h' => ∃ ar' n', DR G h' d el ar' n' (E.insertIdx p e) bl ∧ WA el ar n h h' ar' n') := by
  have D0 := D
  obtain ⟨d1, ⟨mc, f, d2⟩, d3, d4, d5⟩ := D
  have ob : ∀ x ∈ E.map ea, obk h x := by
    intro x hx
    obtain ⟨y, hy, rfl⟩ := List.mem_map.mp hx
    exact (d3 y hy).obk
  have fin : Do_ G M_J2_add_3 [.ref el, .int (nI p), .ref (ea e)] h (RV fun h2 => RV (fun h' => ∃ ar' n', DR G h' d el ar' n' (E.insertIdx p e) bl ∧ WA el ar n h h' ar' n') (.inl none) h2) := by
    refine (J2_add_3_ (i := p) (a := ea e) hw d2 (by rw [List.length_map]; exact hp) (by rw [List.length_map]; omega) ob k.obk).rv ?_
    rintro h' - - ⟨ar', n', f', A', W⟩
    refine ⟨rfl, ar', n', D0.kl W.1 (by rw [map_ins]; exact A') ?_ ?_, W⟩
    · intro y hy
      rcases mem_ins hy with rfl | hy
      · exact k
      · exact d3 y hy
    · rw [List.length_insertIdx]
      split <;> omega
  have key : ∀ (j i : Nat), i = p + j → i ≤ E.length →
      Go_ G M_X2_put 10 [some (.ref d), some (.ref (ea e)), some (.int (nI i))] [] h (RV fun h' => ∃ ar' n', DR G h' d el ar' n' (E.insertIdx p e) bl ∧ WA el ar n h h' ar' n') := by
    intro j
    induction j with
    | zero =>
      intro i hi hie
      obtain rfl : i = p := by omega
      refine w_X2_put_10 ⟨fun _ => ⟨_, gfx d1 rfl rfl, cax d2.1, fin⟩, fun c => ?_⟩
      have h0 : 0 < i := by
        rcases Nat.eq_zero_or_pos i with q | q
        · rw [q] at c; exact absurd (by decide) c
        · exact q
      have hx : E[i - 1]? = some E[i - 1] := List.getElem?_eq_getElem (by omega)
      refine ⟨_, gfx d1 rfl rfl, cax d2.1, ?_⟩
      rw [show nI i - 1 = nI (i - 1) from nI_sub' (b := 1) (by omega)]
      refine (J2_get_ d2 (by rw [List.getElem?_map, hx]; rfl)).use ?_
      have ke := D0.at hx
      obtain ⟨c5, hc1, hc2⟩ := ke.cls
      refine ⟨c5, hc1, hc2, _, ke.name, _, k.name, fun _ => ⟨_, gfx d1 rfl rfl, cax d2.1, fin⟩, fun c => ?_⟩
      have := ke.2.1
      have := k.2.1
      exact absurd ((nI_le' (by omega) (by omega)).mpr (h1 _ h0 hx)) c
    | succ j ih =>
      intro i hi hie
      have hx : E[i - 1]? = some E[i - 1] := List.getElem?_eq_getElem (by omega)
      refine w_X2_put_10 ⟨fun c => ?_, fun c => ?_⟩
      · have := (nI_le' (a := i) (b := 0) (by omega) (by omega)).mp c
        omega
      refine ⟨_, gfx d1 rfl rfl, cax d2.1, ?_⟩
      rw [show nI i - 1 = nI (i - 1) from nI_sub' (b := 1) (by omega)]
      refine (J2_get_ d2 (by rw [List.getElem?_map, hx]; rfl)).use ?_
      have ke := D0.at hx
      obtain ⟨c5, hc1, hc2⟩ := ke.cls
      have := ke.2.1
      have := k.2.1
      refine ⟨c5, hc1, hc2, _, ke.name, _, k.name, fun c => ?_, fun c => ?_⟩
      · have := (nI_le' (by omega) (by omega)).mp c
        have := h2 (i - 1) _ (by omega) hx
        omega
      · rw [show nI i + -1 = nI (i - 1) from by rw [← nI_sub' (a := i) (b := 1) (by omega), Int32.sub_eq_add_neg]; rfl]
        exact ih (i - 1) (by omega) (by omega)
  refine e_X2_put ⟨_, gfx d1 rfl rfl, cax d2.1, (J2_size_ d2).use ?_⟩
  rw [List.length_map]
  exact key (E.length - p) E.length (by omega) (Nat.le_refl _)
theorem X2_take_ {x : Int32} (hw : hwf h) (D : DR G h d el ar n E bl) {i : Nat} {e : EN} (hi : E[i]? = some e) (he : nI (en e) = x) (hf : ∀ j y, j < i → E[j]? = some y → nI (en y) ≠ x) :
    Do_ G M_X2_take [.ref d, .int x] h (RV fun h' => DR G h' d el ar n (E.eraseIdx i) bl ∧ KL el ar n h h' ∧ hm h' ≤ hm h + 5) := by
  have D0 := D
  obtain ⟨d1, ⟨mc, f, d2⟩, d3, d4, d5⟩ := D
  have hfn := fnd_at hi he hf
  have hn0 : n ≠ 0 := by
    have := d2.2.2.1
    rw [List.length_map] at this
    have := (List.getElem?_eq_some_iff.mp hi).1
    omega
  refine e_X2_take ⟨_, gfx d1 rfl rfl, cax d1, (X2_find_ hw D0).ro ?_ ?_⟩
  · rintro h1 - - ⟨b1, -⟩
    rw [hfn] at b1; cases b1
  · rintro _ h1 - - ⟨e', b1, rfl, b2, b3⟩
    rw [hfn] at b1
    cases b1
    have ob : ∀ x ∈ E.map ea, obk h1 x := by
      intro x hx
      obtain ⟨y, hy, rfl⟩ := List.mem_map.mp hx
      exact ((d3 y hy).le b2).obk
    refine ⟨cax (d2.le b2).1, (J2_remove_2_ (d2.le b2) ob ((d3 e (List.mem_of_getElem? hi)).le b2).eqk (by rw [List.getElem?_map, hi]; rfl) (fst_addr D0 hi he hf)).ri ?_⟩
    rintro _ h' - - ⟨-, ⟨f', A'⟩, m⟩
    refine ⟨rfl, (D0.le b2).kl (m.kl hn0) (by rw [map_ers]; exact A') (fun y hy => (d3 y (mem_ers hy)).le b2) ?_, (m.kl hn0).pre b2, by rw [m.2]; exact b3⟩
    rw [List.length_eraseIdx]
    split <;> omega
/-- a thing that is walked: a directory or a part of it -/
def WLK (G : g_) (h : hp_) (w d fr to : Nat) : Prop := ∀ P : Nat → hp_ → Prop, (∀ h', hwf h' → hsz h ≤ hsz h' → IW h' (hsz h) d fr to → Le h h' → hm h' ≤ hm h + 5 → P (hsz h) h') → pck [(2, M_X2_iterator), (10, M_X10_iterator)] [.ref w] h (fun m' => Do_ G m' [.ref w] h (RN P))
theorem DR.wlk (hw : hwf h) (D : DR G h d el ar n E bl) : WLK G h d d 0 E.length := by
  intro P hP
  refine Or.inl ⟨cax D.1, (X2_iterator_ hw D).rn ?_⟩
  rintro _ h' a1 a2 ⟨rfl, b1, b2, b3⟩
  exact hP h' a1 a2 b1 b2 b3
theorem X10_iterator_ {b k : Nat} (hw : hwf h) (D : DR G h d el ar n E bl) (B : hget h b = some (eO 10 [.int (nI k), .ref d])) (hk : k < 1000) : WLK G h b d (4 * k) (min E.length (4 * k + 4)) := by
  intro P hP
  obtain ⟨d1, ⟨mc, f, d2⟩, d3, d4, d5⟩ := D
  refine Or.inr (Or.inl ⟨cax B, e_X10_iterator ⟨_, gfx B rfl rfl, _, gfx B rfl rfl, _, gfx B rfl rfl, _, gfx d1 rfl rfl, cax d2.1, (J2_size_ d2).use ⟨_, gfx B rfl rfl, ?_⟩⟩⟩)
  rw [show (4 : Int32) = nI 4 from rfl, nI_mul', nI_add', List.length_map]
  refine (J11_min_ (by omega) (by omega)).use ⟨cax d1, (X2_walk_ hw).rn ?_⟩
  rintro _ h' a1 a2 ⟨rfl, b1, b2, b3⟩
  exact ⟨_, rfl, hP h' a1 a2 b1 b2 b3⟩
theorem X11_count_ {w fr to : Nat} (hw : hwf h) (D : DR G h d el ar n E bl) (W : WLK G h w d fr to) (hft : to ≤ E.length) (hfr : fr < 10000) : QI G M_X11_count [.ref w] h (nI (to - fr)) 5 := by
  have hl := D.len
  have key : ∀ (k i : Nat) (h1 : hp_), to - i = k → i < 10000 → fr ≤ i → Le h h1 → IW h1 (hsz h) d i to → hm h1 ≤ hm h + 5 → (i = fr ∨ i ≤ to) →
      Go_ G M_X11_count 9 [none, some (.int (nI (i - fr))), some (.ref (hsz h))] [] h1 (RI fun y h' => y = nI (to - fr) ∧ Le h h' ∧ hm h' ≤ hm h + 5) := by
    intro k
    induction k with
    | zero =>
      intro i h1 hk hi hfi b1 b2 b3 b4
      have I0 := b2
      obtain ⟨_, I⟩ := b2
      refine w_X11_count_9 ⟨cax I, (X4_hasNext_ I0 (by omega) (by omega)).use ⟨fun _ => ⟨_, rfl, ?_, b1, b3⟩, fun c => ?_⟩⟩
      · congr 1; omega
      · rw [decide_eq_false (by omega)] at c
        exact absurd rfl c
    | succ k ih =>
      intro i h1 hk hi hfi b1 b2 b3 b4
      have hx : E[i]? = some E[i] := List.getElem?_eq_getElem (by omega)
      have I0 := b2
      obtain ⟨_, I⟩ := b2
      refine w_X11_count_9 ⟨cax I, (X4_hasNext_ I0 (by omega) (by omega)).use ⟨fun c => ?_, fun _ => ⟨cax I, (X4_next_ (D.le b1) I0 hx).rn ?_⟩⟩⟩
      · rw [decide_eq_true (by omega)] at c
        exact absurd c (by decide)
      · rintro _ h2 hw2 - ⟨rfl, J, m⟩
        have nx := ih (i + 1) h2 (by omega) (by omega) (by omega) (m.le hw b1 (Nat.le_refl _)) J (by rw [m.2]; exact b3) (Or.inr (by omega))
        rw [show nI (i - fr) + 1 = nI (i + 1 - fr) from by rw [show i + 1 - fr = (i - fr) + 1 from by omega]; exact nI_add' (i - fr) 1]
        exact nx
  refine e_X11_count (W _ (fun h' a1 a2 b1 b2 b3 => ?_))
  have := key (to - fr) fr h' rfl hfr (Nat.le_refl _) b2 b1 b3 (Or.inl rfl)
  rw [Nat.sub_self] at this
  exact this
theorem X11_first_ {w fr to : Nat} (hw : hwf h) (D : DR G h d el ar n E bl) (W : WLK G h w d fr to) (hft : to ≤ E.length) (hfr : fr < 10000) : QI G M_X11_first [.ref w] h (if fr < to then (match E[fr]? with | some e => nI (en e) | none => -5) else -5) 5 := by
  have hl := D.len
  refine e_X11_first (W _ (fun h1 a1 a2 b1 b2 b3 => ?_))
  have I0 := b1
  obtain ⟨_, I⟩ := b1
  refine ⟨cax I, (X4_hasNext_ I0 (by omega) (by omega)).use ⟨fun c => ?_, fun c => ?_⟩⟩
  · have : ¬ fr < to := of_decide_eq_false ((bI_0 _).mp c)
    rw [if_neg this]
    exact ⟨_, rfl, rfl, b2, b3⟩
  · have hlt : fr < to := of_decide_eq_true ((bI_ne0 _).mp c)
    have hx : E[fr]? = some E[fr] := List.getElem?_eq_getElem (by omega)
    rw [if_pos hlt, hx]
    refine ⟨cax I, (X4_next_ (D.le b2) I0 hx).rn ?_⟩
    rintro _ h2 - - ⟨rfl, J, m⟩
    have l2 := m.le hw b2 (Nat.le_refl _)
    have k2 : ent h2 E[fr] := (D.at hx).le l2
    obtain ⟨c, hc1, hc2⟩ := k2.cls
    exact ⟨c, hc1, hc2, _, k2.name, _, rfl, rfl, l2, by rw [m.2]; exact b3⟩
theorem X11_last_ {w fr to : Nat} (hw : hwf h) (D : DR G h d el ar n E bl) (W : WLK G h w d fr to) (hft : to ≤ E.length) (hfr : fr < 10000) : QI G M_X11_last [.ref w] h (if fr < to then (match E[to - 1]? with | some e => nI (en e) | none => -5) else -5) 5 := by
  have hl := D.len
  have key : ∀ (k i : Nat) (h1 : hp_) (y : Int32), to - i = k → i < 10000 → fr ≤ i → Le h h1 → IW h1 (hsz h) d i to → hm h1 ≤ hm h + 5 → (i = fr ∨ i ≤ to) →
      (y = if fr < i then (match E[i - 1]? with | some e => nI (en e) | none => -5) else -5) →
      Go_ G M_X11_last 10 [none, some (.int y), some (.ref (hsz h)), none] [] h1 (RI fun y h' => y = (if fr < to then (match E[to - 1]? with | some e => nI (en e) | none => -5) else -5) ∧ Le h h' ∧ hm h' ≤ hm h + 5) := by
    intro k
    induction k with
    | zero =>
      intro i h1 y hk hi hfi b1 b2 b3 b4 hy
      have I0 := b2
      obtain ⟨_, I⟩ := b2
      refine w_X11_last_10 ⟨cax I, (X4_hasNext_ I0 (by omega) (by omega)).use ⟨fun _ => ⟨_, rfl, ?_, b1, b3⟩, fun c => ?_⟩⟩
      · rw [hy]
        rcases b4 with b4 | b4
        · rw [if_neg (by omega), if_neg (by omega)]
        · rw [show i = to from by omega]
      · rw [decide_eq_false (by omega)] at c
        exact absurd rfl c
    | succ k ih =>
      intro i h1 y hk hi hfi b1 b2 b3 b4 hy
      have hx : E[i]? = some E[i] := List.getElem?_eq_getElem (by omega)
      have I0 := b2
      obtain ⟨_, I⟩ := b2
      refine w_X11_last_10 ⟨cax I, (X4_hasNext_ I0 (by omega) (by omega)).use ⟨fun c => ?_, fun _ => ⟨cax I, (X4_next_ (D.le b1) I0 hx).rn ?_⟩⟩⟩
      · rw [decide_eq_true (by omega)] at c
        exact absurd c (by decide)
      · rintro _ h2 hw2 - ⟨rfl, J, m⟩
        have l2 := m.le hw b1 (Nat.le_refl _)
        have k2 : ent h2 E[i] := (D.at hx).le l2
        obtain ⟨c, hc1, hc2⟩ := k2.cls
        refine ⟨c, hc1, hc2, _, k2.name, ih (i + 1) h2 _ (by omega) (by omega) (by omega) l2 J (by rw [m.2]; exact b3) (Or.inr (by omega)) ?_⟩
        rw [if_pos (by omega), Nat.add_sub_cancel, hx]
  refine e_X11_last (W _ (fun h' a1 a2 b1 b2 b3 => ?_))
  exact key (to - fr) fr h' _ rfl hfr (Nat.le_refl _) b2 b1 b3 (Or.inl rfl) (by rw [if_neg (by omega)])
theorem X2_count_ (hw : hwf h) (D : DR G h d el ar n E bl) : QI G M_X2_count [.ref d] h (nI E.length) 5 := by
  have D0 := D
  obtain ⟨d1, ⟨mc, f, d2⟩, d3, d4, d5⟩ := D
  refine e_X2_count ⟨_, gfx d1 rfl rfl, cax d2.1, (J2_isEmpty_ d2).use ⟨fun c => ⟨_, gfx d1 rfl rfl, cax d2.1, (J2_size_ d2).use ?_⟩, fun c => ⟨cax d1, (X11_count_ hw D0 (D0.wlk hw) (Nat.le_refl _) (by omega)).use fun h' _ _ k1 k2 => ⟨_, rfl, rfl, k1, k2⟩⟩⟩⟩
  rw [List.length_map]
  exact ⟨_, rfl, rfl, Le.rfl, Nat.le_add_right _ _⟩
theorem X2_block_ {k : Nat} (hw : hwf h) : Do_ G M_X2_block [.ref d, .int (nI k)] h (RN fun b h' => b = hsz h ∧ h' = hnew h (eO 10 [.int (nI k), .ref d]) 2) := by
  refine e_X2_block ⟨cax (hnew_at _ _ _), e_X10_init ⟨_, pfx (hnew_at _ _ _) rfl rfl rfl, _, pfx (hset_at _ _ _) rfl rfl rfl, rfl, _, rfl, rfl, ?_⟩⟩
  rw [hset_hset, hset_new]
  rfl
/-- the one cell is let go -/
def K1 (d : Nat) (h h' : hp_) : Prop := ∀ q e, q ≠ d → hget h q = some e → hget h' q = some e
theorem X2_init_ {v1 v2 : Value} {f : Nat → Option Nat} (hw : hwf h) (hz : hget h (gz G) = some (eR 0 f)) (B : hget h d = some (eO 2 [v1, v2])) :
    Do_ G M_X2_init [.ref d] h (RV fun h' => DR G h' d (hsz h) (gz G) 0 [] 2 ∧ K1 d h h' ∧ hm h' ≤ hm h + 4) := by
  have hw1 : hwf (hnew h (eO 11 [.int 0, .null, .int 0]) 3) := hwf_new hw _ _
  have hd := hlt hw B
  have hz1 := hlt hw hz
  refine e_X2_init ⟨cax (hnew_at _ _ _), (J2_init_ (v3 := 0) (f := f) hw1 (hnew_old hw hz) (hnew_at _ _ _)).rv ?_⟩
  rintro h1 - - ⟨A, rfl⟩
  rw [hset_new] at A ⊢
  have B1 : hget (hnew h (eO 11 [.int 0, .ref (gz G), .int 0]) 3) d = some (eO 2 [v1, v2]) := hnew_old hw B
  refine ⟨_, pfx B1 rfl rfl rfl, _, pfx (hset_at _ _ _) rfl rfl rfl, rfl, ⟨?_, ⟨0, f, A.kept ?_ ?_⟩, ?_, ?_, ?_⟩, ?_, ?_⟩
  · exact hset_at _ _ _
  · rw [hset_ne _ _ (by omega), hset_ne _ _ (by omega)]
  · have : gz G ≠ d := hgn hz B (by simp)
    rw [hset_ne _ _ this, hset_ne _ _ this]
  · exact (fun e he => nomatch he)
  · simp
  · omega
  · intro q e hq z
    rw [hset_ne _ _ hq, hset_ne _ _ hq]
    exact hnew_old hw z
  · rw [hm_set, hm_set, hm_new]
    omega
theorem X2_copy_ {f : Nat → Option Nat} (hw : hwf h) (hz : hget h (gz G) = some (eR 0 f)) (D : DR G h d el ar n E bl) :
    Do_ G M_X2_copy [.ref d] h (RN fun y h' => y = hsz h ∧ ∃ el' ar' n', DR G h' y el' ar' n' E bl ∧ hsz h ≤ el' ∧ (hsz h ≤ ar' ∨ n' = 0) ∧ Le h h' ∧ hm h' ≤ hm h + 4 * n' + 12) := by
  have hl := D.len
  have hdl := hlt hw D.1
  have key : ∀ (k i : Nat) (h1 : hp_) (it el1 ar1 n1 : Nat), E.length - i = k → i ≤ E.length → hwf h1 → Le h h1 → hsz h < it → IW h1 it d i E.length → DR G h1 (hsz h) el1 ar1 n1 (E.take i) 2 → hsz h < el1 → (hsz h ≤ ar1 ∨ n1 = 0) → hm h1 ≤ hm h + 4 * n1 + 12 →
      Go_ G M_X2_copy 13 [some (.ref d), some (.ref (hsz h)), some (.ref it), none] [] h1 (RN fun y h' => y = hsz h ∧ ∃ el' ar' n', DR G h' y el' ar' n' E bl ∧ hsz h ≤ el' ∧ (hsz h ≤ ar' ∨ n' = 0) ∧ Le h h' ∧ hm h' ≤ hm h + 4 * n' + 12) := by
    intro k
    induction k with
    | zero =>
      intro i h1 it el1 ar1 n1 hk hi hw1 b1 b2 b3 b4 b5 b6 b7
      have I0 := b3
      obtain ⟨_, I⟩ := b3
      refine w_X2_copy_13 ⟨cax I, (X4_hasNext_ I0 (by omega) (by omega)).use ⟨fun _ => ⟨_, gfx (b1 _ _ D.1) rfl rfl, ?_⟩, fun c => ?_⟩⟩
      · rw [List.take_of_length_le (by omega)] at b4
        obtain ⟨d1, ⟨mc, f2, d2⟩, d3, d4, d5⟩ := b4
        refine ⟨_, pfx d1 rfl rfl rfl, _, rfl, rfl, el1, ar1, n1, ⟨hset_at _ _ _, ⟨mc, f2, d2.kept (hset_ne _ _ ?_) (hset_ne _ _ ?_)⟩, fun e he => ?_, d4, D.2.2.2.2⟩, by omega, b6, ?_, ?_⟩
        · exact hgn d2.1 d1 (by simp)
        · exact hgn d2.2.1 d1 (by simp)
        · refine ⟨?_, (d3 e he).2⟩
          rw [hset_ne]
          · exact (d3 e he).1
          · have k1 := (d3 e he).1
            obtain ⟨a, nm, g, t⟩ := e
            cases g with
            | none => exact hgn k1 d1 (by simp [ecell])
            | some x => exact hgn k1 d1 (by simp [ecell])
        · intro q e z
          have := hlt hw z
          rw [hset_ne _ _ (by omega)]
          exact b1 q e z
        · rw [hm_set]
          exact b7
      · rw [decide_eq_false (by omega)] at c
        exact absurd rfl c
    | succ k ih =>
      intro i h1 it el1 ar1 n1 hk hi hw1 b1 b2 b3 b4 b5 b6 b7
      have hx : E[i]? = some E[i] := List.getElem?_eq_getElem (by omega)
      have I0 := b3
      obtain ⟨_, I⟩ := b3
      refine w_X2_copy_13 ⟨cax I, (X4_hasNext_ I0 (by omega) (by omega)).use ⟨fun c => ?_, fun _ => ⟨cax I, (X4_next_ (D.le b1) I0 hx).rn ?_⟩⟩⟩
      · rw [decide_eq_true (by omega)] at c
        exact absurd c (by decide)
      · rintro _ h2 hw2 - ⟨rfl, J, m⟩
        have l2 := m.le hw b1 (by omega)
        have k2 : ent h2 E[i] := (D.at hx).le l2
        obtain ⟨c, hc1, hc2⟩ := k2.cls
        have b4' : DR G h2 (hsz h) el1 ar1 n1 (E.take i) 2 := by
          obtain ⟨d1, ⟨mc, f2, d2⟩, d3, d4, d5⟩ := b4
          exact ⟨by rw [m.1 _ (hgn d1 I (by simp))]; exact d1, ⟨mc, f2, d2.kept (m.1 _ (hgn d2.1 I (by simp))) (m.1 _ (hgn d2.2.1 I (by simp)))⟩, fun e he => (D.2.2.1 e (List.mem_of_mem_take he)).le l2, d4, d5⟩
        obtain ⟨d1, ⟨mc, f2, d2⟩, d3, d4, d5⟩ := b4'
        have ob : ∀ x ∈ (E.take i).map ea, obk h2 x := by
          intro x hx
          obtain ⟨y, hy, rfl⟩ := List.mem_map.mp hx
          exact (d3 y hy).obk
        refine ⟨c, hc1, hc2, _, gfx d1 rfl rfl, cax d2.1, (J2_add_ hw2 d2 (by rw [List.length_map, List.length_take]; omega) ob k2.obk).ri ?_⟩
        rintro _ h3 hw3 hs3 ⟨-, ar', n', f', A', W⟩
        have htk : (E.take i).map ea ++ [ea E[i]] = (E.take (i + 1)).map ea := by
          rw [List.take_add_one, hx, List.map_append]; rfl
        rw [htk] at A'
        have D' : DR G h3 (hsz h) el1 ar' n' (E.take (i + 1)) 2 := DR.kl ⟨d1, ⟨mc, f2, d2⟩, d3, d4, d5⟩ W.1 A' (fun e he => (D.2.2.1 e (List.mem_of_mem_take he)).le l2) (by rw [List.length_take]; omega)
        refine ih (i + 1) h3 it el1 ar' n' (by omega) (by omega) hw3 (KL.le hw l2 (by omega) b6 W.1) b2 ?_ D' b5 ?_ ?_
        · obtain ⟨fr2, J⟩ := J
          exact ⟨fr2, W.1 _ _ (hgn J d2.1 (by simp)) (Or.inl (hgn J d2.2.1 (by simp))) J⟩
        · rcases W.2.1 with ⟨w1, w2, w3⟩ | w
          · left
            rw [w1]
            exact b6.resolve_right (by omega)
          · left
            have := hlt hw2 d1
            omega
        · have w := W.2.2
          have := m.2
          omega
  have hw1 : hwf (hnew h (eO 2 [.null, .int 0]) 2) := hwf_new hw _ _
  refine e_X2_copy ⟨cax (hnew_at _ _ _), (X2_init_ hw1 (hnew_old hw hz) (hnew_at _ _ _)).rv ?_⟩
  rintro h1 hw1' hs1 ⟨D1, m1, m2⟩
  have l1 : Le h h1 := fun q e z => m1 q e (by have := hlt hw z; omega) (hnew_old hw z)
  refine ⟨cax (l1 _ _ D.1), (X2_iterator_ hw1' (D.le l1)).rn ?_⟩
  rintro _ h2 hw2 hs2 ⟨rfl, I, l2, m3⟩
  have hz1 : hsz (hnew h (eO 2 [.null, .int 0]) 2) = hsz h + 1 := hsz_new _ _ _
  rw [hm_new] at m2
  rw [hz1] at hs1
  have D2 := D1.le l2
  rw [hz1] at D2
  exact key E.length 0 h2 (hsz h1) (hsz h + 1) (gz G) 0 rfl (Nat.zero_le _) hw2 (l1.trans l2) (by omega) I D2 (by omega) (Or.inr rfl) (by omega)
end D7
