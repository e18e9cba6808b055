/-! BASE 1: an abstract heap, and that the machine's heap holds it -/
set_option maxRecDepth 100000
/-- what an address holds: an int array (false) or a byte array (true), an array of references, an object of a class by number -/
abbrev e_ : Type := (Bool × Nat × (Nat → Int32)) ⊕ ((Nat × (Nat → Option Nat)) ⊕ (Nat × List Value))
abbrev eI (n : Nat) (f : Nat → Int32) : e_ := .inl (false, n, f)
abbrev eB (n : Nat) (f : Nat → Int32) : e_ := .inl (true, n, f)
abbrev eR (n : Nat) (f : Nat → Option Nat) : e_ := .inr (.inl (n, f))
abbrev eO (c : Nat) (fs : List Value) : e_ := .inr (.inr (c, fs))
abbrev hp_ : Type := (Nat → Option e_) × Nat × Nat
def hget (h : hp_) (a : Nat) : Option e_ := h.1 a
def hsz (h : hp_) : Nat := h.2.1
def hsl (h : hp_) : Nat := h.2.2
def hset (h : hp_) (a : Nat) (e : e_) : hp_ := (fun q => if q = a then some e else h.1 q, h.2.1, h.2.2)
def hnew (h : hp_) (e : e_) (n : Nat) : hp_ := (fun q => if q = h.2.1 then some e else h.1 q, h.2.1 + 1, h.2.2 + n)
def hwf (h : hp_) : Prop := ∀ a, hsz h ≤ a → hget h a = none
theorem hget_set (h : hp_) (a : Nat) (e : e_) (q : Nat) : hget (hset h a e) q = if q = a then some e else hget h q := rfl
theorem hget_new (h : hp_) (e : e_) (n q : Nat) : hget (hnew h e n) q = if q = hsz h then some e else hget h q := rfl
theorem hsz_set (h : hp_) (a : Nat) (e : e_) : hsz (hset h a e) = hsz h := rfl
theorem hsl_set (h : hp_) (a : Nat) (e : e_) : hsl (hset h a e) = hsl h := rfl
theorem hsz_new (h : hp_) (e : e_) (n : Nat) : hsz (hnew h e n) = hsz h + 1 := rfl
theorem hsl_new (h : hp_) (e : e_) (n : Nat) : hsl (hnew h e n) = hsl h + n := rfl
theorem hlt {h : hp_} (hw : hwf h) {a : Nat} {e : e_} (hg : hget h a = some e) : a < hsz h := by
  rcases Nat.lt_or_ge a (hsz h) with q | q
  · exact q
  · rw [hw a q] at hg; cases hg
theorem hwf_set {h : hp_} (hw : hwf h) {a : Nat} (e : e_) (ha : a < hsz h) : hwf (hset h a e) := by
  intro q hq
  rw [hget_set, if_neg (by have : hsz h ≤ q := hq; omega)]
  exact hw q hq
theorem hwf_new {h : hp_} (hw : hwf h) (e : e_) (n : Nat) : hwf (hnew h e n) := by
  intro q hq
  have hq : hsz h + 1 ≤ q := hq
  rw [hget_new, if_neg (by omega)]
  exact hw q (by omega)
theorem hnew_old {h : hp_} (hw : hwf h) {a : Nat} {e x : e_} {n : Nat} (hg : hget h a = some x) : hget (hnew h e n) a = some x := by
  rw [hget_new, if_neg (by have := hlt hw hg; omega)]
  exact hg
theorem hnew_at (h : hp_) (e : e_) (n : Nat) : hget (hnew h e n) (hsz h) = some e := by rw [hget_new, if_pos rfl]
theorem hset_at (h : hp_) (a : Nat) (e : e_) : hget (hset h a e) a = some e := by rw [hget_set, if_pos rfl]
theorem hset_ne (h : hp_) {a q : Nat} (e : e_) (hq : q ≠ a) : hget (hset h a e) q = hget h q := by rw [hget_set, if_neg hq]
/-- the launch, the classes' numbers and slots, the array classes int, byte, Object, the base, the empty element data, the formatter static, the mirror of the class of Object arrays -/
abbrev g_ : Type := Launch × va_G × ClassId × ClassId × ClassId × Nat × Nat × Option Nat × Nat × Nat × Nat × (Nat → Int32)
abbrev gl (G : g_) : Launch := G.1
abbrev gD (G : g_) : va_G := G.2.1
abbrev gI (G : g_) : ClassId := G.2.2.1
abbrev gB (G : g_) : ClassId := G.2.2.2.1
abbrev gO (G : g_) : ClassId := G.2.2.2.2.1
abbrev gb (G : g_) : Nat := G.2.2.2.2.2.1
abbrev gz (G : g_) : Nat := G.2.2.2.2.2.2.1
abbrev gF (G : g_) : Option Nat := G.2.2.2.2.2.2.2.1
abbrev gM (G : g_) : Nat := G.2.2.2.2.2.2.2.2.1
/-- the script: where it lies, how long it is, what it holds -/
abbrev gs (G : g_) : Nat := G.2.2.2.2.2.2.2.2.2.1
abbrev gn (G : g_) : Nat := G.2.2.2.2.2.2.2.2.2.2.1
abbrev gf_ (G : g_) : Nat → Int32 := G.2.2.2.2.2.2.2.2.2.2.2
/-- the addresses that may be written -/
def gA (G : g_) : Nat → Prop := fun q => gb G ≤ q
def tr_ (G : g_) : e_ → va_E
  | .inl (false, n, f) => .inl (gI G, n, .inl f)
  | .inl (true, n, f) => .inl (gB G, n, .inl f)
  | .inr (.inl (n, f)) => .inl (gO G, n, .inr (.inr (.inr (.inr f))))
  | .inr (.inr (c, fs)) => .inr (c, fs)
def tys_ (G : g_) : List (ClassId × FieldType) := [(gI G, .int), (gB G, .byte), (gO G, .object "java/lang/Object")]
/-- of a Fault its place alone is told -/
abbrev T9_ : u_T := fun _ => ("MemberShelf$Fault", "place", "I", true)
theorem in9_ : ∀ w ∈ u_ws RX9 T9_ 1, w ∈ lw_all := lw_in (u_ws RX9 T9_ 1) [911] (by decide +kernel) (by decide +kernel)
/-- the claim's classes by number -/
abbrev cls_ : List vw_C := [(RX0, TX0, 4), (RX1, TX1, 4), (RX2, TX2, 2), (RX3, TX3, 12), (RX4, TX4, 4), (RX5, TX5, 2), (RX6, TX6, 3), (RX7, TX7, 3), (RX8, TX8, 2), (RX9, T9_, 1), (RX10, TX10, 2), (RJ2, TJ2, 3), (RJ3, TJ3, 3), (RJ5, TJ5, 4), (RJ13, TJ13, 4)]
/-- what the statics hold, which nobody writes -/
def Zs (G : g_) (U : State) (H : Heap) : Prop :=
  va_Z "java/util/ArrayList" "DEFAULTCAPACITY_EMPTY_ELEMENTDATA" "[Ljava/lang/Object;" (.ref (gz G)) (gA G) U H ∧
  va_Z "java/lang/String" "COMPACT_STRINGS" "Z" (.int 1) (gA G) U H ∧
  va_Z "java/lang/StringUTF16" "$assertionsDisabled" "Z" (.int 1) (gA G) U H ∧
  va_Z "java/lang/StringUTF16" "HI_BYTE_SHIFT" "I" (.int 0) (gA G) U H ∧
  va_Z "java/lang/StringUTF16" "LO_BYTE_SHIFT" "I" (.int 8) (gA G) U H ∧
  va_Z "jdk/internal/util/Preconditions" "SIOOBE_FORMATTER" "Ljava/util/function/BiFunction;" (va_rf (gF G)) (gA G) U H ∧
  vy_Zq "java/lang/Throwable" "UNASSIGNED_STACK" "[Ljava/lang/StackTraceElement;" (gA G) U H ∧
  vy_Zq "java/lang/Throwable" "SUPPRESSED_SENTINEL" "Ljava/util/List;" (gA G) U H ∧
  (gs G < gb G ∧ H[gs G]? = some (vp_cell (gI G) (gn G, .inl (gf_ G)))) ∧
  ∃ cell : Cell, H[gz G]? = some cell ∧ U.isArrayOf cell (.object "java/lang/Object") ∧ cell.slots.size = 0 ∧ (gl G).stackTraces = false
theorem Zs.moved {G : g_} {u U : State} {H : Heap} (hvm : u.vm.Alike U.vm) (h : Zs G u H) : Zs G U H := by
  obtain ⟨h1, h2, h3, h4, h5, h6, h7, h8, h12, cell, h9, h10, h11⟩ := h
  exact ⟨h1.moved hvm, h2.moved hvm, h3.moved hvm, h4.moved hvm, h5.moved hvm, h6.moved hvm, h7.moved hvm, h8.moved hvm, h12, cell, h9, State.isArrayOf_alike hvm h10, h11⟩
theorem Zs.kept {G : g_} {U : State} {H H1 : Heap} (hz : gz G < gb G) (h : Zs G U H) (hq : ∀ a : Nat, a < H.size → ¬ gA G a → H1[a]? = H[a]?) : Zs G U H1 := by
  obtain ⟨h1, h2, h3, h4, h5, h6, h7, h8, h12, cell, h9, h10, h11⟩ := h
  refine ⟨h1.kept hq, h2.kept hq, h3.kept hq, h4.kept hq, h5.kept hq, h6.kept hq, h7.kept hq, h8.kept hq, ⟨h12.1, (hq _ (Array.getElem?_eq_some_iff.mp h12.2).1 (by have := h12.1; show ¬ gb G ≤ gs G; omega)).trans h12.2⟩, cell, ?_, h10, h11⟩
  rw [hq _ (Array.getElem?_eq_some_iff.mp h9).1 (by show ¬ gb G ≤ gz G; omega)]
  exact h9
/-- the machine's heap H holds the abstract heap h -/
def Rep (G : g_) (h : hp_) (U : State) (H : Heap) : Prop :=
  H.size = hsz h ∧ gz G < gb G ∧ gb G ≤ hsz h ∧
  (∀ (a : Nat) (e : e_), hget h a = some e → (gb G ≤ a ∧ va_at (gD G) cls_ (a, tr_ G e) H) ∨ (a = gz G ∧ ∃ f, e = eR 0 f)) ∧ Zs G U H
theorem Rep.moved {G : g_} {h : hp_} {u U : State} {H : Heap} (hvm : u.vm.Alike U.vm) (r : Rep G h u H) : Rep G h U H := ⟨r.1, r.2.1, r.2.2.1, r.2.2.2.1, r.2.2.2.2.moved hvm⟩
theorem Rep.at {G : g_} {h : hp_} {U : State} {H : Heap} (r : Rep G h U H) {a : Nat} {e : e_} (hg : hget h a = some e) (hne : ∀ f, e ≠ eR 0 f) : gb G ≤ a ∧ va_at (gD G) cls_ (a, tr_ G e) H := by
  rcases r.2.2.2.1 a e hg with q | ⟨-, f, q⟩
  · exact q
  · exact absurd q (hne f)
theorem Rep.lt {G : g_} {h : hp_} {U : State} {H : Heap} (r : Rep G h U H) {a : Nat} {e : e_} (hg : hget h a = some e) : a < hsz h := by
  rcases r.2.2.2.1 a e hg with ⟨-, q⟩ | ⟨q, -⟩
  · have := va_at.lt q; rw [← r.1]; exact this
  · have := r.2.1; have := r.2.2.1; omega
/-- one cell is written anew -/
theorem Rep.set {G : g_} {h : hp_} {U : State} {H H1 : Heap} (r : Rep G h U H) {a : Nat} {e' : e_} (ha : gb G ≤ a) (hz : H1.size = H.size) (oq : ∀ q : Nat, q ≠ a → H1[q]? = H[q]?) (he : va_at (gD G) cls_ (a, tr_ G e') H1) : Rep G (hset h a e') U H1 := by
  refine ⟨hz.trans r.1, r.2.1, r.2.2.1, fun q x hx => ?_, r.2.2.2.2.kept r.2.1 fun q _ hq => oq q fun e => hq (by rw [e]; exact ha)⟩
  rw [hget_set] at hx
  by_cases hqa : q = a
  · rw [if_pos hqa] at hx
    cases hx
    subst hqa
    exact Or.inl ⟨ha, he⟩
  · rw [if_neg hqa] at hx
    rcases r.2.2.2.1 q x hx with ⟨h1, h2⟩ | h1
    · exact Or.inl ⟨h1, h2.kept (oq q hqa)⟩
    · exact Or.inr h1
/-- a cell is made -/
theorem Rep.new {G : g_} {h : hp_} {U : State} {H H1 : Heap} (r : Rep G h U H) {e' : e_} {n : Nat} (hz : H1.size = H.size + 1) (oq : ∀ q : Nat, q < H.size → H1[q]? = H[q]?) (he : va_at (gD G) cls_ (H.size, tr_ G e') H1) : Rep G (hnew h e' n) U H1 := by
  refine ⟨by rw [hz, r.1]; rfl, r.2.1, by rw [hsz_new]; have := r.2.2.1; omega, fun q x hx => ?_, r.2.2.2.2.kept r.2.1 fun q h1 _ => oq q h1⟩
  rw [hget_new] at hx
  by_cases hqa : q = hsz h
  · rw [if_pos hqa] at hx
    cases hx
    subst hqa
    rw [r.1] at he
    exact Or.inl ⟨r.2.2.1, he⟩
  · rw [if_neg hqa] at hx
    have hl := r.lt hx
    rcases r.2.2.2.1 q x hx with ⟨h1, h2⟩ | h1
    · exact Or.inl ⟨h1, h2.kept (oq q (by rw [r.1]; exact hl))⟩
    · exact Or.inr h1
/-- the heap's cells as a list -/
def wsOf (G : g_) (h : hp_) : va_W := (List.range (hsz h)).filterMap fun a => if a < gb G then none else (hget h a).map fun e => (a, tr_ G e)
theorem wsOf_mem {G : g_} {h : hp_} {q : Nat × va_E} : q ∈ wsOf G h ↔ gb G ≤ q.1 ∧ q.1 < hsz h ∧ ∃ e, hget h q.1 = some e ∧ q.2 = tr_ G e := by
  unfold wsOf
  rw [List.mem_filterMap]
  constructor
  · rintro ⟨a, ha, h1⟩
    rw [List.mem_range] at ha
    by_cases hb : a < gb G
    · rw [if_pos hb] at h1; cases h1
    · rw [if_neg hb] at h1
      cases hg : hget h a with
      | none => rw [hg] at h1; cases h1
      | some e =>
        rw [hg] at h1
        cases h1
        exact ⟨by show gb G ≤ a; omega, ha, e, hg, rfl⟩
  · rintro ⟨h1, h2, e, h3, h4⟩
    refine ⟨q.1, List.mem_range.mpr h2, ?_⟩
    rw [if_neg (by omega), h3]
    show some (q.1, tr_ G e) = some q
    rw [← h4]
theorem wsOf_mk {G : g_} {h : hp_} {a : Nat} {e : e_} (h1 : gb G ≤ a) (h2 : a < hsz h) (hg : hget h a = some e) : ∃ i : Nat, (wsOf G h)[i]? = some (a, tr_ G e) := by
  have hm : (a, tr_ G e) ∈ wsOf G h := wsOf_mem.mpr ⟨h1, h2, e, hg, rfl⟩
  exact List.getElem?_of_mem hm
theorem wsOf_get {G : g_} {h : hp_} {U : State} {H : Heap} (r : Rep G h U H) {a : Nat} {e : e_} (hg : hget h a = some e) (hne : ∀ f, e ≠ eR 0 f) : ∃ i : Nat, (wsOf G h)[i]? = some (a, tr_ G e) :=
  wsOf_mk (r.at hg hne).1 (r.lt hg) hg
theorem wsOf_apart (G : g_) (h : hp_) : ∀ (i j : Nat) (p q : Nat × va_E), (wsOf G h)[i]? = some p → (wsOf G h)[j]? = some q → p.1 = q.1 → i = j := by
  have hp : (wsOf G h).Pairwise (fun x y => x.1 < y.1) := by
    unfold wsOf
    refine List.Pairwise.filterMap _ ?_ List.pairwise_lt_range
    intro a a' hlt b hb b' hb'
    have key : ∀ (c : Nat) (x : Nat × va_E), (if c < gb G then none else (hget h c).map fun e => (c, tr_ G e)) = some x → x.1 = c := by
      intro c x hx
      by_cases hc : c < gb G
      · rw [if_pos hc] at hx; cases hx
      · rw [if_neg hc] at hx
        cases hg : hget h c with
        | none => rw [hg] at hx; cases hx
        | some e => rw [hg] at hx; cases hx; rfl
    rw [key a b hb, key a' b' hb']
    exact hlt
  intro i j p q hi hj he
  obtain ⟨li, ei⟩ := List.getElem?_eq_some_iff.mp hi
  obtain ⟨lj, ej⟩ := List.getElem?_eq_some_iff.mp hj
  rcases Nat.lt_trichotomy i j with q1 | q1 | q1
  · have := List.pairwise_iff_getElem.mp hp i j li lj q1
    rw [ei, ej] at this; omega
  · exact q1
  · have := List.pairwise_iff_getElem.mp hp j i lj li q1
    rw [ei, ej] at this; omega
theorem Rep.ws {G : g_} {h : hp_} {U : State} {H : Heap} (r : Rep G h U H) : va_P (gD G) cls_ (wsOf G h) H := by
  intro k q hk
  obtain ⟨h1, -, e, h3, h4⟩ := wsOf_mem.mp (List.mem_of_getElem? hk)
  rcases r.2.2.2.1 q.1 e h3 with ⟨-, h5⟩ | ⟨h5, -⟩
  · rw [show q = (q.1, tr_ G e) by rw [← h4]]
    exact h5
  · have := r.2.1; omega
theorem Rep.wd {G : g_} {h : hp_} {U : State} {H : Heap} (r : Rep G h U H) : va_D (gA G) (wsOf G h) :=
  ⟨wsOf_apart G h, fun k q hk => (wsOf_mem.mp (List.mem_of_getElem? hk)).1⟩
/-- behind a row of the kit that wrote one cell of the list -/
theorem Rep.back {G : g_} {h : hp_} {U : State} {H H1 : Heap} {locs1 : List Loc} (r : Rep G h U H) {i a : Nat} {x : va_E} {e' : e_} (hi : (wsOf G h)[i]? = some (a, x)) (hP : va_P (gD G) cls_ ((wsOf G h).set i (a, tr_ G e')) H1) (hS : va_S (gA G) H H1 locs1) (hz : H1.size ≤ H.size) : Rep G (hset h a e') U H1 := by
  obtain ⟨hl, -⟩ := List.getElem?_eq_some_iff.mp hi
  have ha : gb G ≤ a := (wsOf_mem.mp (List.mem_of_getElem? hi)).1
  have z : H1.size = H.size := Nat.le_antisymm hz hS.1
  refine ⟨z.trans r.1, r.2.1, r.2.2.1, fun q y hy => ?_, r.2.2.2.2.kept r.2.1 fun q h1 h2 => hS.2.1 q h1 h2⟩
  rw [hget_set] at hy
  by_cases hqa : q = a
  · rw [if_pos hqa] at hy
    cases hy
    subst hqa
    exact Or.inl ⟨ha, hP i (q, tr_ G e') (by rw [List.getElem?_set_self hl])⟩
  · rw [if_neg hqa] at hy
    rcases r.2.2.2.1 q y hy with ⟨h1, h2⟩ | h1
    · obtain ⟨j, hj⟩ := wsOf_mk h1 (r.lt hy) hy
      refine Or.inl ⟨h1, hP j (q, tr_ G y) ?_⟩
      have hij : i ≠ j := fun e => by
        subst e
        rw [hi] at hj
        exact hqa (congrArg Prod.fst (Option.some.inj hj)).symm
      rw [List.getElem?_set_ne hij]
      exact hj
    · exact Or.inr h1
