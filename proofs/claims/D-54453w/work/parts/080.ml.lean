/-! SPECS 30: the model in the heap -/
set_option maxRecDepth 100000
def up (V : Nat → Nat → Int32) (k : Nat) (f : Nat → Int32) : Nat → Nat → Int32 := fun j => if j = k then f else V j
theorem up_at (V : Nat → Nat → Int32) (k : Nat) (f : Nat → Int32) : up V k f k = f := by simp [up]
theorem up_ne (V : Nat → Nat → Int32) {k j : Nat} (f : Nat → Int32) (h : j ≠ k) : up V k f j = V j := by simp [up, h]
theorem up_up (V : Nat → Nat → Int32) (k : Nat) (f g : Nat → Int32) : up (up V k f) k g = up V k g := by
  funext j
  by_cases h : j = k <;> simp [up, h]
abbrev mfs (ad : Nat → Nat) (F : Nat → Int32) : List Value := [.ref (ad 0), .ref (ad 1), .ref (ad 2), .int (F 0), .ref (ad 3), .int (F 1), .ref (ad 4), .ref (ad 5), .int (F 2), .int (F 3), .int (F 4), .int (F 5)]
/-- the model in the heap: its six arrays V, its six numbers F -/
def mk_ (ad : Nat → Nat) (h : hp_) (V : Nat → Nat → Int32) (F : Nat → Int32) : hp_ :=
  (fun q => if q = ad 6 then some (eO 3 (mfs ad F)) else if q = ad 0 then some (eI 149 (V 0)) else if q = ad 1 then some (eI 149 (V 1)) else if q = ad 2 then some (eI 596 (V 2)) else if q = ad 3 then some (eI 149 (V 3)) else if q = ad 4 then some (eI 6 (V 4)) else if q = ad 5 then some (eI 60 (V 5)) else h.1 q, h.2)
/-- the model's places are seven -/
def MD (ad : Nat → Nat) : Prop := ∀ i j, i < 7 → j < 7 → ad i = ad j → i = j
theorem MD.ne {ad : Nat → Nat} (D : MD ad) {i j : Nat} (hi : i < 7) (hj : j < 7) (h : i ≠ j) : ad i ≠ ad j := fun e => h (D i j hi hj e)
section D30
variable {G : g_} {ad : Nat → Nat} {h : hp_} {V : Nat → Nat → Int32} {F : Nat → Int32}
theorem mk6 : hget (mk_ ad h V F) (ad 6) = some (eO 3 (mfs ad F)) := by
  unfold mk_ hget; simp
theorem mk0 (D : MD ad) : hget (mk_ ad h V F) (ad 0) = some (eI 149 (V 0)) := by
  unfold mk_ hget; simp [D.ne (i := 0) (j := 6) (by omega) (by omega) (by omega)]
theorem mk1 (D : MD ad) : hget (mk_ ad h V F) (ad 1) = some (eI 149 (V 1)) := by
  unfold mk_ hget; simp [D.ne (i := 1) (j := 6) (by omega) (by omega) (by omega), D.ne (i := 1) (j := 0) (by omega) (by omega) (by omega)]
theorem mk2 (D : MD ad) : hget (mk_ ad h V F) (ad 2) = some (eI 596 (V 2)) := by
  unfold mk_ hget; simp [D.ne (i := 2) (j := 6) (by omega) (by omega) (by omega), D.ne (i := 2) (j := 0) (by omega) (by omega) (by omega), D.ne (i := 2) (j := 1) (by omega) (by omega) (by omega)]
theorem mk3 (D : MD ad) : hget (mk_ ad h V F) (ad 3) = some (eI 149 (V 3)) := by
  unfold mk_ hget; simp [D.ne (i := 3) (j := 6) (by omega) (by omega) (by omega), D.ne (i := 3) (j := 0) (by omega) (by omega) (by omega), D.ne (i := 3) (j := 1) (by omega) (by omega) (by omega), D.ne (i := 3) (j := 2) (by omega) (by omega) (by omega)]
theorem mk4 (D : MD ad) : hget (mk_ ad h V F) (ad 4) = some (eI 6 (V 4)) := by
  unfold mk_ hget; simp [D.ne (i := 4) (j := 6) (by omega) (by omega) (by omega), D.ne (i := 4) (j := 0) (by omega) (by omega) (by omega), D.ne (i := 4) (j := 1) (by omega) (by omega) (by omega), D.ne (i := 4) (j := 2) (by omega) (by omega) (by omega), D.ne (i := 4) (j := 3) (by omega) (by omega) (by omega)]
theorem mk5 (D : MD ad) : hget (mk_ ad h V F) (ad 5) = some (eI 60 (V 5)) := by
  unfold mk_ hget; simp [D.ne (i := 5) (j := 6) (by omega) (by omega) (by omega), D.ne (i := 5) (j := 0) (by omega) (by omega) (by omega), D.ne (i := 5) (j := 1) (by omega) (by omega) (by omega), D.ne (i := 5) (j := 2) (by omega) (by omega) (by omega), D.ne (i := 5) (j := 3) (by omega) (by omega) (by omega), D.ne (i := 5) (j := 4) (by omega) (by omega) (by omega)]
theorem hset_id {h : hp_} {a : Nat} {e : e_} (z : hget h a = some e) : hset h a e = h := by
  unfold hset
  refine Prod.ext (funext fun q => ?_) rfl
  by_cases hq : q = a
  · subst hq
    simp only [if_pos]
    exact z.symm
  · simp [hq]
theorem hp_eq {h h' : hp_} (k : ∀ q, hget h q = hget h' q) (e : h.2 = h'.2) : h = h' := Prod.ext (funext fun q => k q) e
theorem mk_other {q : Nat} (hq : ∀ i, i < 7 → q ≠ ad i) : hget (mk_ ad h V F) q = hget h q := by
  unfold mk_ hget
  simp [hq 0 (by omega), hq 1 (by omega), hq 2 (by omega), hq 3 (by omega), hq 4 (by omega), hq 5 (by omega), hq 6 (by omega)]
theorem set6 (D : MD ad) {F' : Nat → Int32} : hset (mk_ ad h V F) (ad 6) (eO 3 (mfs ad F')) = mk_ ad h V F' := by
  refine hp_eq (fun q => ?_) rfl
  by_cases h6 : q = ad 6
  · subst h6
    rw [hset_at, mk6]
  · rw [hset_ne _ _ h6]
    unfold mk_ hget
    simp [h6]
theorem set0 (D : MD ad) {f : Nat → Int32} : hset (mk_ ad h V F) (ad 0) (eI 149 f) = mk_ ad h (up V 0 f) F := by
  refine hp_eq (fun q => ?_) rfl
  by_cases h6 : q = ad 0
  · subst h6
    rw [hset_at, mk0 D, up_at]
  · rw [hset_ne _ _ h6]
    unfold mk_ hget
    simp [h6, up]
theorem set1 (D : MD ad) {f : Nat → Int32} : hset (mk_ ad h V F) (ad 1) (eI 149 f) = mk_ ad h (up V 1 f) F := by
  refine hp_eq (fun q => ?_) rfl
  by_cases h6 : q = ad 1
  · subst h6
    rw [hset_at, mk1 D, up_at]
  · rw [hset_ne _ _ h6]
    unfold mk_ hget
    simp [h6, up]
theorem set2 (D : MD ad) {f : Nat → Int32} : hset (mk_ ad h V F) (ad 2) (eI 596 f) = mk_ ad h (up V 2 f) F := by
  refine hp_eq (fun q => ?_) rfl
  by_cases h6 : q = ad 2
  · subst h6
    rw [hset_at, mk2 D, up_at]
  · rw [hset_ne _ _ h6]
    unfold mk_ hget
    simp [h6, up]
theorem set3 (D : MD ad) {f : Nat → Int32} : hset (mk_ ad h V F) (ad 3) (eI 149 f) = mk_ ad h (up V 3 f) F := by
  refine hp_eq (fun q => ?_) rfl
  by_cases h6 : q = ad 3
  · subst h6
    rw [hset_at, mk3 D, up_at]
  · rw [hset_ne _ _ h6]
    unfold mk_ hget
    simp [h6, up]
theorem set4 (D : MD ad) {f : Nat → Int32} : hset (mk_ ad h V F) (ad 4) (eI 6 f) = mk_ ad h (up V 4 f) F := by
  refine hp_eq (fun q => ?_) rfl
  by_cases h6 : q = ad 4
  · subst h6
    rw [hset_at, mk4 D, up_at]
  · rw [hset_ne _ _ h6]
    unfold mk_ hget
    simp [h6, up]
theorem set5 (D : MD ad) {f : Nat → Int32} : hset (mk_ ad h V F) (ad 5) (eI 60 f) = mk_ ad h (up V 5 f) F := by
  refine hp_eq (fun q => ?_) rfl
  by_cases h6 : q = ad 5
  · subst h6
    rw [hset_at, mk5 D, up_at]
  · rw [hset_ne _ _ h6]
    unfold mk_ hget
    simp [h6, up]
theorem p_hl (D : MD ad) {x : Int32} : pf fd_X3_historyLong (mk_ ad h V F) (ad 6) (.int x) = some (mk_ ad h V (upd F 0 x)) :=
  (pfx (j := 3) (fs' := mfs ad (upd F 0 x)) (mk6 (h := h) (V := V) (F := F)) rfl rfl rfl).trans (by rw [set6 D])
theorem p_tk (D : MD ad) {x : Int32} : pf fd_X3_isTaken (mk_ ad h V F) (ad 6) (.int x) = some (mk_ ad h V (upd F 1 x)) :=
  (pfx (j := 5) (fs' := mfs ad (upd F 1 x)) (mk6 (h := h) (V := V) (F := F)) rfl rfl rfl).trans (by rw [set6 D])
theorem p_pl (D : MD ad) {x : Int32} : pf fd_X3_padLong (mk_ ad h V F) (ad 6) (.int x) = some (mk_ ad h V (upd F 2 x)) :=
  (pfx (j := 8) (fs' := mfs ad (upd F 2 x)) (mk6 (h := h) (V := V) (F := F)) rfl rfl rfl).trans (by rw [set6 D])
theorem p_sp (D : MD ad) {x : Int32} : pf fd_X3_spot (mk_ ad h V F) (ad 6) (.int x) = some (mk_ ad h V (upd F 3 x)) :=
  (pfx (j := 9) (fs' := mfs ad (upd F 3 x)) (mk6 (h := h) (V := V) (F := F)) rfl rfl rfl).trans (by rw [set6 D])
theorem p_nu (D : MD ad) {x : Int32} : pf fd_X3_number (mk_ ad h V F) (ad 6) (.int x) = some (mk_ ad h V (upd F 4 x)) :=
  (pfx (j := 10) (fs' := mfs ad (upd F 4 x)) (mk6 (h := h) (V := V) (F := F)) rfl rfl rfl).trans (by rw [set6 D])
theorem p_to (D : MD ad) {x : Int32} : pf fd_X3_told (mk_ ad h V F) (ad 6) (.int x) = some (mk_ ad h V (upd F 5 x)) :=
  (pfx (j := 11) (fs' := mfs ad (upd F 5 x)) (mk6 (h := h) (V := V) (F := F)) rfl rfl rfl).trans (by rw [set6 D])
/-- ends with the heap told -/
def Qw (G : g_) (m : mt_) (av : List Value) (h h2 : hp_) : Prop := Do_ G m av h (RV fun h' => h' = h2)
def Qi (G : g_) (m : mt_) (av : List Value) (h : hp_) (x : Int32) (h2 : hp_) : Prop := Do_ G m av h (RI fun y h' => y = x ∧ h' = h2)
theorem Qw.use {m : mt_} {av : List Value} {h h2 : hp_} {P : hp_ → Prop} (k : Qw G m av h h2) (hk : P h2) : Do_ G m av h (RV P) := by
  refine Do_.rv k ?_
  rintro _ - - rfl
  exact hk
theorem Qi.use {m : mt_} {av : List Value} {h h2 : hp_} {x : Int32} {P : Int32 → hp_ → Prop} (k : Qi G m av h x h2) (hk : P x h2) : Do_ G m av h (RI P) := by
  refine Do_.ri k ?_
  rintro _ _ - - ⟨rfl, rfl⟩
  exact hk
theorem lgc1 (x y : Int64) : lg_cmp x y < 0 ↔ x < y := by
  unfold lg_cmp
  by_cases h1 : x > y
  · rw [if_pos h1]
    exact ⟨fun c => absurd c (by decide), fun c => absurd c (fun c => Int64.lt_irrefl (Int64.lt_trans c h1))⟩
  · rw [if_neg h1]
    by_cases h2 : x = y
    · rw [if_pos h2]
      exact ⟨fun c => absurd c (by decide), fun c => absurd c (by rw [h2]; exact Int64.lt_irrefl)⟩
    · rw [if_neg h2]
      refine ⟨fun _ => ?_, fun _ => by decide⟩
      rw [Int64.lt_iff_toInt_lt]
      have h3 : ¬ y.toInt < x.toInt := fun c => h1 (Int64.lt_iff_toInt_lt.mpr c)
      have h4 : x.toInt ≠ y.toInt := fun c => h2 (Int64.toInt_inj.mp c)
      omega
theorem lgc2 (x y : Int64) : 0 < lg_cmp x y ↔ y < x := by
  unfold lg_cmp
  by_cases h1 : x > y
  · rw [if_pos h1]
    exact ⟨fun _ => h1, fun _ => by decide⟩
  · rw [if_neg h1]
    by_cases h2 : x = y
    · rw [if_pos h2]
      exact ⟨fun c => absurd c (by decide), fun c => absurd c h1⟩
    · rw [if_neg h2]
      exact ⟨fun c => absurd c (by decide), fun c => absurd c h1⟩
theorem X3_in_ {h : hp_} {a b c : Int64} : QE G M_X3_in [.long a, .long b, .long c] h (bI (decide (b.toInt ≤ a.toInt ∧ a.toInt ≤ c.toInt))) := by
  refine e_X3_in ⟨fun k => ⟨nI_b0, _, rfl, ?_, rfl⟩, fun k => ⟨fun k2 => ⟨nI_b0, _, rfl, ?_, rfl⟩, fun k2 => ⟨nI_b1, _, rfl, ?_, rfl⟩⟩⟩
  · have := Int64.lt_iff_toInt_lt.mp ((lgc1 _ _).mp k)
    rw [decide_eq_false (by omega)]; rfl
  · have := Int64.lt_iff_toInt_lt.mp ((lgc2 _ _).mp k2)
    rw [decide_eq_false (by omega)]; rfl
  · have h1 : ¬ a.toInt < b.toInt := fun e => k ((lgc1 _ _).mpr (Int64.lt_iff_toInt_lt.mpr e))
    have h2 : ¬ c.toInt < a.toInt := fun e => k2 ((lgc2 _ _).mpr (Int64.lt_iff_toInt_lt.mpr e))
    rw [decide_eq_true (by omega)]; rfl
theorem X3_in32_ {h : hp_} {x : Int32} {b c : Int64} {lo hi : Int32} (hb : b.toInt = lo.toInt) (hc : c.toInt = hi.toInt) : QE G M_X3_in [.long x.toInt64, .long b, .long c] h (bI (inr x lo hi)) := by
  have k := X3_in_ (G := G) (h := h) (a := x.toInt64) (b := b) (c := c)
  have e : decide (b.toInt ≤ x.toInt64.toInt ∧ x.toInt64.toInt ≤ c.toInt) = inr x lo hi := by
    unfold inr
    refine decide_eq_decide.mpr ?_
    rw [Int32.toInt_toInt64, Int32.le_iff_toInt_le, Int32.le_iff_toInt_le, hb, hc]
  rw [e] at k
  exact k
theorem X3_isName_ {h : hp_} {x : Int32} : QE G M_X3_isName [.int x] h (bI (inr x 0 675)) := e_X3_isName ((X3_in32_ (by decide) (by decide)).use ⟨bI_nar _, _, rfl, rfl, rfl⟩)
theorem X3_of_ (D : MD ad) {r w : Nat} (hr : 5 + 6 * r + w < 149) : QE G M_X3_of [.ref (ad 6), .int (nI r), .int (nI w)] (mk_ ad h V F) (V 0 (5 + 6 * r + w)) := by
  refine e_X3_of ⟨_, gfx mk6 rfl rfl, _, _, 5 + 6 * r + w, mk0 D, ?_, _, rfl, rfl, rfl⟩
  rw [show (5 : Int32) + 6 * nI r + nI w = nI (5 + 6 * r + w) from by rw [show (6 : Int32) = nI 6 from rfl, nI_mul', show (5 : Int32) = nI 5 from rfl, nI_add', nI_add']]
  exact ix_nI hr (by omega)
theorem X3_sets_ (D : MD ad) {r w : Nat} {x : Int32} (hr : 5 + 6 * r + w < 149) : Qw G M_X3_sets [.ref (ad 6), .int (nI r), .int (nI w), .int x] (mk_ ad h V F) (mk_ ad h (up V 0 (upd (V 0) (5 + 6 * r + w) x)) F) := by
  refine e_X3_sets ⟨_, gfx mk6 rfl rfl, _, _, 5 + 6 * r + w, mk0 D, ?_, rfl, set0 D⟩
  rw [show (5 : Int32) + 6 * nI r + nI w = nI (5 + 6 * r + w) from by rw [show (6 : Int32) = nI 6 from rfl, nI_mul', show (5 : Int32) = nI 5 from rfl, nI_add', nI_add']]
  exact ix_nI hr (by omega)
/-- a row's numbers -/
def rf (r : rw_) : Nat → Int32
  | 0 => nI r.1
  | 1 => bI r.2.1.isSome
  | 2 => nI r.2.2.1
  | 3 => nI r.2.2.2.1
  | 4 => nI r.2.2.2.2
  | _ => gvI r.2.1
/-- an array that holds rows -/
def RA (W : List (Nat → Int32)) (A : Nat → Int32) : Prop := A 0 = nI W.length ∧ W.length ≤ 24 ∧ ∀ (i : Nat) (f : Nat → Int32), W[i]? = some f → ∀ k, k < 6 → A (5 + 6 * i + k) = f k
/-- an array that holds a shelf -/
def AR (σ : sg_) (A : Nat → Int32) : Prop := RA (σ.1.map rf) A ∧ A 1 = nI σ.2.2.1 ∧ A 2 = nI (tsum σ.2.1) ∧ A 3 = σ.2.2.2.1 ∧ A 4 = σ.2.2.2.2
theorem AR.cong {σ : sg_} {A B : Nat → Int32} (a : AR σ A) (e : ∀ k, k < 149 → B k = A k) : AR σ B := by
  obtain ⟨⟨a1, a2, a3⟩, a4, a5, a6, a7⟩ := a
  refine ⟨⟨by rw [e 0 (by omega)]; exact a1, a2, fun i f hf k hk => ?_⟩, by rw [e 1 (by omega)]; exact a4, by rw [e 2 (by omega)]; exact a5, by rw [e 3 (by omega)]; exact a6, by rw [e 4 (by omega)]; exact a7⟩
  have := (List.getElem?_eq_some_iff.mp hf).1
  rw [e _ (by omega)]
  exact a3 i f hf k hk
theorem AR.len {σ : sg_} {A : Nat → Int32} (a : AR σ A) : A 0 = nI σ.1.length ∧ σ.1.length ≤ 24 := by
  obtain ⟨⟨a1, a2, a3⟩, -⟩ := a
  rw [List.length_map] at a1 a2
  exact ⟨a1, a2⟩
theorem AR.at {σ : sg_} {A : Nat → Int32} (a : AR σ A) {i k : Nat} {r : rw_} (hi : σ.1[i]? = some r) (hk : k < 6) : A (5 + 6 * i + k) = rf r k := a.1.2.2 i (rf r) (by rw [List.getElem?_map, hi]; rfl) k hk
def rk (R : List rw_) (x : Int32) : Int32 := match look R x with
  | none => -5
  | some i => nI i
theorem X3_rankOf_ (D : MD ad) {σ : sg_} {x : Int32} (A : AR σ (V 0)) : QE G M_X3_rankOf [.ref (ad 6), .int x] (mk_ ad h V F) (rk σ.1 x) := by
  obtain ⟨hl, hl24⟩ := A.len
  have key : ∀ (j i : Nat), σ.1.length - i = j → i ≤ σ.1.length → (∀ (q : Nat) (y : rw_), q < i → σ.1[q]? = some y → nI y.1 ≠ x) →
      Go_ G M_X3_rankOf 2 [some (.ref (ad 6)), some (.int x), some (.int (nI i))] [] (mk_ ad h V F) (RI fun y h' => y = rk σ.1 x ∧ h' = mk_ ad h V F) := by
    intro j
    induction j with
    | zero =>
      intro i hj hi b
      refine w_X3_rankOf_2 ⟨_, gfx mk6 rfl rfl, _, _, 0, mk0 D, ix_nI (j := 0) (by omega) (by omega), fun _ => ⟨_, rfl, ?_, rfl⟩, fun c => ?_⟩
      · unfold rk
        rw [look_no (fun r hr => ?_)]
        obtain ⟨q, hq⟩ := List.getElem?_of_mem hr
        exact b q r (by have := (List.getElem?_eq_some_iff.mp hq).1; omega) hq
      · rw [hl] at c
        exact absurd ((nI_le' (by omega) (by omega)).mpr (by omega)) c
    | succ j ih =>
      intro i hj hi b
      have hx : σ.1[i]? = some σ.1[i] := List.getElem?_eq_getElem (by omega)
      refine w_X3_rankOf_2 ⟨_, gfx mk6 rfl rfl, _, _, 0, mk0 D, ix_nI (j := 0) (by omega) (by omega), fun c => ?_, fun c => ⟨cax mk6, (X3_of_ (w := 0) D (by omega)).use ?_⟩⟩
      · rw [hl] at c
        have := (nI_le' (by omega) (by omega)).mp c
        omega
      · rw [A.at (k := 0) hx (by omega)]
        refine ⟨fun c2 => ?_, fun c2 => ⟨_, rfl, ?_, rfl⟩⟩
        · rw [show nI i + 1 = nI (i + 1) from nI_add' i 1]
          refine ih (i + 1) (by omega) (by omega) (fun q y hq hy => ?_)
          by_cases hqi : q < i
          · exact b q y hqi hy
          · obtain rfl : q = i := by omega
            rw [hx] at hy
            rw [← Option.some.inj hy]
            exact c2
        · unfold rk
          rw [look_of hx (Classical.not_not.mp c2) b]
  exact e_X3_rankOf (key σ.1.length 0 (by omega) (Nat.zero_le _) (fun q y hq => absurd hq (by omega)))
theorem nI_m5 {i : Nat} (hi : i < 1000) : ¬ nI i = -5 := by
  intro e
  have h1 := congrArg Int32.toInt e
  rw [nI_toInt (by omega)] at h1
  have h2 : (-5 : Int32).toInt = -5 := by decide
  omega
def isM (R : List rw_) (o : Option Nat) : Bool := match o with
  | none => false
  | some i => match R[i]? with
    | none => false
    | some r => r.2.1.isNone
def orI (o : Option Nat) : Int32 := match o with
  | none => -5
  | some i => nI i
theorem X3_isMember_ (D : MD ad) {σ : sg_} {o : Option Nat} (A : AR σ (V 0)) (ho : ∀ i, o = some i → i < σ.1.length) : QE G M_X3_isMember [.ref (ad 6), .int (orI o)] (mk_ ad h V F) (bI (isM σ.1 o)) := by
  obtain ⟨hl, hl24⟩ := A.len
  cases o with
  | none => exact e_X3_isMember ⟨fun _ => ⟨nI_b0, _, rfl, rfl, rfl⟩, fun c => absurd rfl c⟩
  | some i =>
    have hi := ho i rfl
    have hx : σ.1[i]? = some σ.1[i] := List.getElem?_eq_getElem hi
    refine e_X3_isMember ⟨fun c => absurd c (nI_m5 (by omega)), fun _ => ⟨cax mk6, (X3_of_ (w := 1) D (by omega)).use ?_⟩⟩
    rw [A.at (k := 1) hx (by omega)]
    have e : isM σ.1 (some i) = σ.1[i].2.1.isNone := by unfold isM; dsimp only; rw [hx]
    rw [e]
    refine ⟨fun c => ⟨nI_b0, _, rfl, ?_, rfl⟩, fun c => ⟨nI_b1, _, rfl, ?_, rfl⟩⟩
    · have : (σ.1[i].2.1).isSome = true := (bI_ne0 _).mp c
      cases hg : σ.1[i].2.1 with
      | none => rw [hg] at this; cases this
      | some _ => rfl
    · have : (σ.1[i].2.1).isSome = false := (bI_0 _).mp (Classical.not_not.mp c)
      cases hg : σ.1[i].2.1 with
      | none => rfl
      | some _ => rw [hg] at this; cases this
theorem X3_isFull_ (D : MD ad) {σ : sg_} (A : AR σ (V 0)) (hb : σ.2.2.1 ≤ 6) : QE G M_X3_isDirectoryFull [.ref (ad 6)] (mk_ ad h V F) (bI (decide (σ.1.length = 4 * σ.2.2.1))) := by
  obtain ⟨hl, hl24⟩ := A.len
  refine e_X3_isDirectoryFull ⟨_, gfx mk6 rfl rfl, _, _, 0, mk0 D, ix_nI (j := 0) (by omega) (by omega), _, gfx mk6 rfl rfl, _, _, 1, mk0 D, ix_nI (j := 1) (by omega) (by omega), ?_⟩
  rw [hl, A.2.1, show (4 : Int32) = nI 4 from rfl, nI_mul']
  refine ⟨fun c => ⟨nI_b0, _, rfl, ?_, rfl⟩, fun c => ⟨nI_b1, _, rfl, ?_, rfl⟩⟩
  · rw [decide_eq_false (fun e => c (by rw [e]))]; rfl
  · rw [decide_eq_true ((nI_eq' (by omega) (by omega)).mp (Classical.not_not.mp c))]; rfl
theorem X3_isRoomFor_ (D : MD ad) {σ : sg_} {l : Nat} (A : AR σ (V 0)) (ht : tsum σ.2.1 ≤ 100) (hl : l ≤ 40) : QE G M_X3_isRoomFor [.ref (ad 6), .int (nI l)] (mk_ ad h V F) (bI (decide (tsum σ.2.1 + l ≤ 100))) := by
  refine e_X3_isRoomFor ⟨_, gfx mk6 rfl rfl, _, _, 2, mk0 D, ix_nI (j := 2) (by omega) (by omega), ?_⟩
  rw [A.2.2.1, nI_add']
  refine ⟨fun c => ⟨nI_b0, _, rfl, ?_, rfl⟩, fun c => ⟨nI_b1, _, rfl, ?_, rfl⟩⟩
  · have := (nI_lt' (a := 100) (by omega) (by omega)).mp c
    rw [decide_eq_false (by omega)]; rfl
  · have : ¬ 100 < tsum σ.2.1 + l := fun e => c ((nI_lt' (a := 100) (by omega) (by omega)).mpr e)
    rw [decide_eq_true (by omega)]; rfl
theorem X3_remember_ (D : MD ad) : Do_ G M_X3_remember [.ref (ad 6)] (mk_ ad h V F) (RV fun h' => ∃ f, h' = mk_ ad h (up V 1 f) F ∧ ∀ k, k < 149 → f k = V 0 k) := by
  have key : ∀ (j i : Nat) (f : Nat → Int32), 149 - i = j → i ≤ 149 → (∀ k, k < i → f k = V 0 k) →
      Go_ G M_X3_remember 2 [some (.ref (ad 6)), some (.int (nI i))] [] (mk_ ad h (up V 1 f) F) (RV fun h' => ∃ f, h' = mk_ ad h (up V 1 f) F ∧ ∀ k, k < 149 → f k = V 0 k) := by
    intro j
    induction j with
    | zero =>
      intro i f hj hi b
      obtain rfl : i = 149 := by omega
      exact w_X3_remember_2 ⟨fun _ => ⟨rfl, f, rfl, b⟩, fun c => absurd (by decide) c⟩
    | succ j ih =>
      intro i f hj hi b
      refine w_X3_remember_2 ⟨fun c => ?_, fun c => ⟨_, gfx mk6 rfl rfl, _, gfx mk6 rfl rfl, _, _, i, mk0 D, ix_nI (by omega) (by omega), _, _, i, mk1 D, ix_nI (by omega) (by omega), ?_⟩⟩
      · have := (nI_le' (a := 149) (by omega) (by omega)).mp c
        omega
      · rw [set1 D, up_up, up_at, up_ne _ _ (by omega), show nI i + 1 = nI (i + 1) from nI_add' i 1]
        refine ih (i + 1) _ (by omega) (by omega) (fun k hk => ?_)
        by_cases hki : k = i
        · subst hki; rw [upd_at]
        · rw [upd_ne _ _ hki]; exact b k (by omega)
  have e : mk_ ad h V F = mk_ ad h (up V 1 (V 1)) F := by
    rw [← set1 D]
    exact (hset_id (mk1 D)).symm
  refine e_X3_remember ?_
  rw [e]
  exact key 149 0 (V 1) rfl (by omega) (fun k hk => absurd hk (by omega))
end D30
